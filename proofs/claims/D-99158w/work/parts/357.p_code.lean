/-! PARSER, the twin's own state of sums and tests -/
set_option maxRecDepth 100000
/-- but for what reading writes all is as before -/
def FQ (σ0 σ : MS) : Prop := σ.2.1 = σ0.2.1 ∧ σ.2.2.2 = σ0.2.2.2 ∧ (∀ k, k ≠ 91 → k ≠ 93 → σ.2.2.1 k = σ0.2.2.1 k) ∧ ∀ k, k ≠ 2 → k ≠ 4 → k ≠ 5 → k ≠ 6 → k ≠ 39 → k ≠ 92 → k ≠ 94 → k ≠ 95 → k ≠ 96 → σ.1 k = σ0.1 k
/-- what waits, its top first, from place b on -/
def SkO (f : Nat → Int32) (b : Nat) : List Nat → Prop
  | [] => True
  | o :: S => f (b + S.length) = nI o ∧ SkO f b S
/-- codes -/
def OtO (f : Nat → Int32) (O : List Nat) : Prop := ∀ i, i < O.length → f i = nI (O.getD i 0)
def cq : List Nat → Nat
  | [] => 0
  | o :: S => (if 12 ≤ o then 1 else 0) + cq S
/-- what lies below is no sign of a sum -/
def Bz (f : Nat → Int32) (b : Nat) : Prop := b = 0 ∨ ∃ t, f (b - 1) = nI t ∧ 10 ≤ t ∧ t < 100
/-- the twin at p: S waits above b, O told, d open -/
def TQ (σ0 : MS) (B : Nat → Nat) (L m b : Nat) (σ : MS) (p : Nat) (S O : List Nat) (d : Nat) : Prop := (TD σ B L p ∧ TL σ B p ∧ WD σ) ∧ (σ.1 5 = 0 ∧ σ.1 53 = nI m ∧ σ.1 96 = nI b ∧ σ.1 94 = nI (b + S.length) ∧ σ.1 95 = nI d ∧ σ.1 92 = nI O.length) ∧ SkO (σ.2.2.1 93) b S ∧ (∀ i, i < b → σ.2.2.1 93 i = σ0.2.2.1 93 i) ∧ OtO (σ.2.2.1 91) O ∧ FQ σ0 σ ∧ (d ≤ 6 ∧ σ.1 6 = σ0.1 6) ∧ Bz (σ0.2.2.1 93) b ∧ O.length + b + S.length ≤ p + 2 ∧ ∀ o, o ∈ S → o < 100
section PCO
variable {B : Nat → Nat} {L m b p q p1 d k c o n j v : Nat} {S S' O O' cs : List Nat} {σ0 σ σ' : MS} {f : Nat → Int32} {x : Int32}
theorem SkO.to {f g : Nat → Int32} (h : SkO f b S) (e : ∀ i, b ≤ i → i < b + S.length → g i = f i) : SkO g b S := by
  induction S with
  | nil => trivial
  | cons o S ih =>
    obtain ⟨h1, h2⟩ := h
    exact ⟨by rw [e _ (by omega) (by simp)]; exact h1, ih h2 (fun i a b => e i a (by simp only [List.length_cons]; omega))⟩
theorem OtO.app {f : Nat → Int32} (h : OtO f O) (e : f O.length = nI c) : OtO f (O ++ [c]) := fun i hi => by
  simp only [List.length_append, List.length_cons, List.length_nil] at hi
  by_cases q : i = O.length
  · subst q
    rw [e]
    congr 1
    simp [List.getD_eq_getElem?_getD]
  · have : i < O.length := by omega
    rw [h i this]
    congr 1
    simp [List.getD_eq_getElem?_getD, List.getElem?_append_left this]
theorem FQ.refl (σ : MS) : FQ σ σ := ⟨rfl, rfl, fun _ _ _ => rfl, fun _ _ _ _ _ _ _ _ _ _ => rfl⟩
theorem FQ.si (h : FQ σ0 σ) (hk : k = 2 ∨ k = 4 ∨ k = 5 ∨ k = 6 ∨ k = 92 ∨ k = 94 ∨ k = 95 ∨ k = 96) : FQ σ0 (sI σ k x) := ⟨h.1, h.2.1, h.2.2.1, fun j a b c d e f g i l => by rw [sI_n (by omega)]; exact h.2.2.2 j a b c d e f g i l⟩
theorem FQ.sa (h : FQ σ0 σ) (hk : k = 91 ∨ k = 93) : FQ σ0 (sA σ k n x) := ⟨h.1, h.2.1, fun j a b => by rw [sA_n (by omega)]; exact h.2.2.1 j a b, h.2.2.2⟩
theorem TD.to {σ' : MS} (R : TD σ B L p) (e0 : σ'.2.2.1 0 = σ.2.2.1 0) (e3 : σ'.1 3 = σ.1 3) (e2 : σ'.1 2 = σ.1 2) : TD σ' B L p := ⟨R.1.to e0, R.2.1, R.2.2.1, by rw [e3]; exact R.2.2.2.1, by rw [e2]; exact R.2.2.2.2⟩
theorem TL.to {σ' : MS} (T : TL σ B p) (e4 : σ'.1 4 = σ.1 4) : TL σ' B p := by
  unfold TL
  rw [e4]
  exact T
theorem WD.fr {σ' : MS} (W : WD σ) (e : ∀ k, k ≠ 91 → k ≠ 93 → σ'.2.2.1 k = σ.2.2.1 k) : WD σ' := fun k j hj => by
  have h1 : k ≠ 91 := fun q => by subst q; exact absurd hj (by decide +revert)
  have h2 : k ≠ 93 := fun q => by subst q; exact absurd hj (by decide +revert)
  rw [e k h1 h2]
  exact W k j hj
theorem TQ.bd (T : TQ σ0 B L m b σ p S O d) : O.length + b + S.length ≤ p + 2 ∧ p ≤ L ∧ L ≤ 1600 := ⟨T.2.2.2.2.2.2.2.2.1, T.1.1.2.2.1, T.1.1.2.1⟩
/-- the place alone: behind blanks -/
theorem TQ.blk (T : TQ σ0 B L m b σ p S O d) : TQ σ0 B L m b (sI σ 2 (nI (sk B L p))) (sk B L p) S O d := by
  obtain ⟨⟨t1, t2, t3⟩, ⟨t4, t5, t6, t7, t8, t9⟩, t10, t11, t12, t13, t14, t15, t16, t17⟩ := T
  have := @sk_ge p L B
  exact ⟨⟨t1.mv (sk_le t1.2.2.1), t2.mv t1.2.2.1, t3.fr (fun _ _ _ => rfl)⟩, ⟨by rw [sI_n (by omega)]; exact t4, by rw [sI_n (by omega)]; exact t5, by rw [sI_n (by omega)]; exact t6, by rw [sI_n (by omega)]; exact t7, by rw [sI_n (by omega)]; exact t8, by rw [sI_n (by omega)]; exact t9⟩, t10, t11, t12, t13.si (by omega), t14, t15, by omega, t17⟩
/-- a sign has been passed -/
theorem TQ.sg (T : TQ σ0 B L m b σ p S O d) (h : sk B L p < L) (hc : ¬ LE (B (sk B L p)) ∧ ¬ DI (B (sk B L p))) : TQ σ0 B L m b (sI σ 2 (nI (sk B L p + 1))) (sk B L p + 1) S O d := by
  obtain ⟨⟨t1, t2, t3⟩, ⟨t4, t5, t6, t7, t8, t9⟩, t10, t11, t12, t13, t14, t15, t16, t17⟩ := T
  have g := @sk_ge p L B
  have np : ¬ PT B (sk B L p + 1) := fun y => by
    have := y.2
    rw [Nat.add_sub_cancel] at this
    exact this.elim hc.1 hc.2
  have e4 : (sI σ 2 (nI (sk B L p + 1))).1 4 = σ.1 4 := sI_n (by omega)
  refine ⟨⟨t1.mv h, ?_, t3.fr (fun _ _ _ => rfl)⟩, ⟨by rw [sI_n (by omega)]; exact t4, by rw [sI_n (by omega)]; exact t5, by rw [sI_n (by omega)]; exact t6, by rw [sI_n (by omega)]; exact t7, by rw [sI_n (by omega)]; exact t8, by rw [sI_n (by omega)]; exact t9⟩, t10, t11, t12, t13.si (by omega), t14, t15, by omega, t17⟩
  rcases t2 with ⟨l1, l2⟩ | ⟨l, l1, l2, l3⟩
  · exact Or.inl ⟨by rw [e4]; exact l1, np⟩
  · exact Or.inr ⟨l, by omega, by rw [e4]; exact l2, ⟨fun y => by omega, fun y => absurd y np⟩⟩
/-- a word or a number has been passed -/
theorem TQ.wd (T : TQ σ0 B L m b σ p S O d) (h : p ≤ q) (hq : q ≤ L) (hc : PT B q) : TQ σ0 B L m b (sI (sI σ 2 (nI q)) 4 (nI q)) q S O d := by
  obtain ⟨⟨t1, t2, t3⟩, ⟨t4, t5, t6, t7, t8, t9⟩, t10, t11, t12, t13, t14, t15, t16, t17⟩ := T
  have t1' := (t1.mv hq)
  refine ⟨⟨⟨t1'.1, t1'.2.1, hq, by rw [sI_n (by omega)]; exact t1'.2.2.2.1, by rw [sI_n (by omega)]; exact sI_s⟩, Or.inr ⟨q, Nat.le_refl _, sI_s, ⟨fun _ => hc, fun _ => rfl⟩⟩, t3.fr (fun _ _ _ => rfl)⟩, ⟨by rw [sI_n (by omega), sI_n (by omega)]; exact t4, by rw [sI_n (by omega), sI_n (by omega)]; exact t5, by rw [sI_n (by omega), sI_n (by omega)]; exact t6, by rw [sI_n (by omega), sI_n (by omega)]; exact t7, by rw [sI_n (by omega), sI_n (by omega)]; exact t8, by rw [sI_n (by omega), sI_n (by omega)]; exact t9⟩, t10, t11, t12, (t13.si (by omega)).si (by omega), t14, t15, by omega, t17⟩
theorem we_PT (h : LEa B L q) : PT B (we B L q) := by
  have g := we_gt h
  exact ⟨by omega, Or.inl (we_in (B := B) (L := L) (p := q) (k := we B L q - 1) (by omega) (by omega)).2⟩
/-- a code is told -/
theorem TQ.code (T : TQ σ0 B L m b σ p S O d) (hc : O.length + 1 + b + S.length ≤ p + 2) : ∃ σ', fX6_qCode σ (nI c) = some σ' ∧ TQ σ0 B L m b σ' p S (O ++ [c]) d := by
  have hb := T.bd
  obtain ⟨⟨t1, t2, t3⟩, ⟨t4, t5, t6, t7, t8, t9⟩, t10, t11, t12, t13, t14, t15, t16, t17⟩ := T
  refine ⟨sI (sA σ 91 O.length (nI c)) 92 (nI (O.length + 1)), ?_, ⟨t1.to (by show (sA σ 91 _ _).2.2.1 0 = _; rw [sA_n (by omega)]) (by rw [sI_n (by omega)]; rfl) (by rw [sI_n (by omega)]; rfl), t2.to (by rw [sI_n (by omega)]; rfl), t3.fr (fun k h1 h2 => by show (sA σ 91 _ _).2.2.1 k = _; rw [sA_n h1])⟩, ⟨by rw [sI_n (by omega)]; exact t4, by rw [sI_n (by omega)]; exact t5, by rw [sI_n (by omega)]; exact t6, by rw [sI_n (by omega)]; exact t7, by rw [sI_n (by omega)]; exact t8, by rw [sI_s]; simp⟩, ?_, ?_, ?_, (t13.sa (Or.inl rfl)).si (by omega), t14, t15, ?_, t17⟩
  · simp only [fX6_qCode, t9, tp91 (show O.length < 1700 by omega), bsm, sA_1, nI_1]
  · exact t10.to (fun i _ _ => by show (sA σ 91 _ _).2.2.1 93 i = _; rw [sA_n (by omega)])
  · exact fun i hi => by show (sA σ 91 _ _).2.2.1 93 i = _; rw [sA_n (by omega)]; exact t11 i hi
  · refine OtO.app (fun i hi => ?_) ?_
    · show (sA σ 91 _ _).2.2.1 91 i = _
      rw [sA_m (by omega)]
      exact t12 i hi
    · show (sA σ 91 _ _).2.2.1 91 _ = _
      rw [sA_s]
  · simp only [List.length_append, List.length_cons, List.length_nil]
    omega
/-- the top of what waits is told -/
theorem TQ.drop (T : TQ σ0 B L m b σ p (o :: S) O d) : ∃ σ', fX6_qDrops σ = some σ' ∧ TQ σ0 B L m b σ' p S (O ++ [o]) d := by
  have hb := T.bd
  obtain ⟨⟨t1, t2, t3⟩, ⟨t4, t5, t6, t7, t8, t9⟩, ⟨t10, t10'⟩, t11, t12, t13, t14, t15, t16, t17⟩ := T
  have hl : (o :: S).length = S.length + 1 := rfl
  rw [hl] at t7 hb t16
  have e1 : nI (b + (S.length + 1)) - 1 = nI (b + S.length) := by rw [nI_m1 (by omega)]; exact congrArg nI (by omega)
  have T1 : TQ σ0 B L m b (sI σ 94 (nI (b + S.length))) p S O d := ⟨⟨t1.to rfl (sI_n (by omega)) (sI_n (by omega)), t2.to (sI_n (by omega)), t3.fr (fun _ _ _ => rfl)⟩, ⟨by rw [sI_n (by omega)]; exact t4, by rw [sI_n (by omega)]; exact t5, by rw [sI_n (by omega)]; exact t6, sI_s, by rw [sI_n (by omega)]; exact t8, by rw [sI_n (by omega)]; exact t9⟩, t10', t11, t12, t13.si (by omega), t14, t15, by omega, fun x hx => t17 x (List.mem_cons_of_mem _ hx)⟩
  obtain ⟨σ', h1, h2⟩ := T1.code (c := o) (by omega)
  refine ⟨σ', ?_, h2⟩
  have g : aI (sI σ 94 (nI (b + S.length))) 93 (nI (b + S.length)) = some (nI o) := by
    rw [tg93 (by omega)]
    exact congrArg some t10
  simp only [fX6_qDrops, t7, e1, sI_s, g, bsm, h1]
/-- one more waits -/
theorem TQ.push (T : TQ σ0 B L m b σ p S O d) (hc : O.length + b + S.length + 1 ≤ p + 2) (ho : o < 100) : ∃ σ', tI σ 93 (σ.1 94) (nI o) = some σ' ∧ σ'.1 94 = nI (b + S.length) ∧ TQ σ0 B L m b (sI σ' 94 (nI (b + S.length + 1))) p (o :: S) O d := by
  have hb := T.bd
  obtain ⟨⟨t1, t2, t3⟩, ⟨t4, t5, t6, t7, t8, t9⟩, t10, t11, t12, t13, t14, t15, t16, t17⟩ := T
  refine ⟨sA σ 93 (b + S.length) (nI o), by rw [t7]; exact tp93 (by omega), t7, ⟨t1.to (by show (sA σ 93 _ _).2.2.1 0 = _; rw [sA_n (by omega)]) (by rw [sI_n (by omega)]; rfl) (by rw [sI_n (by omega)]; rfl), t2.to (by rw [sI_n (by omega)]; rfl), t3.fr (fun k h1 h2 => by show (sA σ 93 _ _).2.2.1 k = _; rw [sA_n h2])⟩, ⟨by rw [sI_n (by omega)]; exact t4, by rw [sI_n (by omega)]; exact t5, by rw [sI_n (by omega)]; exact t6, sI_s, by rw [sI_n (by omega)]; exact t8, by rw [sI_n (by omega)]; exact t9⟩, ⟨?_, ?_⟩, ?_, ?_, (t13.sa (Or.inr rfl)).si (by omega), t14, t15, by show O.length + b + (S.length + 1) ≤ p + 2; omega, ?_⟩
  · show (sA σ 93 _ _).2.2.1 93 _ = _
    rw [sA_s]
  · exact t10.to (fun i h1 h2 => by show (sA σ 93 _ _).2.2.1 93 i = _; rw [sA_m (by omega)])
  · exact fun i hi => by show (sA σ 93 _ _).2.2.1 93 i = _; rw [sA_m (by omega)]; exact t11 i hi
  · exact fun i hi => by show (sA σ 93 _ _).2.2.1 91 i = _; rw [sA_n (by omega)]; exact t12 i hi
  · intro x hx
    rcases List.mem_cons.mp hx with h | h
    · subst h; exact ho
    · exact t17 x h
/-- is it on top? -/
theorem TQ.on (T : TQ σ0 B L m b σ p S O d) (hc : c < 10 ∨ S ≠ []) (hc2 : c < 100) : fX6_qIsOn σ (nI c) = some (if S ≠ [] ∧ hd S = c then 1 else 0) := by
  have hb := T.bd
  obtain ⟨⟨t1, t2, t3⟩, ⟨t4, t5, t6, t7, t8, t9⟩, t10, t11, t12, t13, t14, t15, t16, t17⟩ := T
  have k1 : (nI (b + S.length) ≤ 0) = (b + S.length = 0) := nI_le0 (by omega)
  cases S with
  | nil =>
    rw [if_neg (fun q => q.1 rfl)]
    have hl : ([] : List Nat).length = 0 := rfl
    rw [hl] at t7 k1 hb
    simp only [fX6_qIsOn, t7, k1]
    by_cases z : b + 0 = 0
    · rw [if_pos z]
    · rw [if_neg z, nI_m1 (by omega), tg93 (by omega), bsm]
      have e1 : b + 0 - 1 = b - 1 := by omega
      rw [e1, t11 (b - 1) (by omega)]
      rcases t15 with h | ⟨t, h1, h2, h3⟩
      · omega
      · rw [h1, if_neg]
        intro q
        have := (nI_eq (by omega) (by omega)).mp q
        rcases hc with hc | hc
        · omega
        · exact hc rfl
  | cons o S =>
    have hl : (o :: S).length = S.length + 1 := rfl
    rw [hl] at t7 k1 hb
    have ho := t17 o List.mem_cons_self
    have e1 : nI (b + (S.length + 1)) - 1 = nI (b + S.length) := by rw [nI_m1 (by omega)]; exact congrArg nI (by omega)
    have kk : (nI o = nI c) = (o = c) := nI_eqE (by omega) (by omega)
    simp only [fX6_qIsOn, t7, k1, if_neg (show ¬ b + (S.length + 1) = 0 by omega), e1, tg93 (show b + S.length < 1700 by omega), bsm, t10.1, kk]
    by_cases z : o = c
    · rw [if_pos z, if_pos ⟨List.cons_ne_nil _ _, z⟩]
    · rw [if_neg z, if_neg (fun q => z q.2)]
/-- the bracket open last -/
theorem brk_o {S0 : List Nat} (T : TQ σ0 B L m b σ p S0 O d) : ∀ (S : List Nat) (fu : Nat), S.length < fu → S.length ≤ S0.length → SkO (σ.2.2.1 93) b S → (∀ o, o ∈ S → o < 100) → fX6_qBracket_7 σ fu (nI (b + S.length) - 1) = some (if brS S = 0 then -1 else nI (brS S)) := by
  have hb := T.bd
  obtain ⟨⟨t1, t2, t3⟩, ⟨t4, t5, t6, t7, t8, t9⟩, -⟩ := T
  intro S
  induction S with
  | nil =>
    intro fu h1 h2 h3 h4
    obtain ⟨fu, rfl⟩ : ∃ n, fu = n + 1 := ⟨fu - 1, by omega⟩
    have lt : nI (b + ([] : List Nat).length) - 1 < nI b := by
      show nI b - 1 < nI b
      by_cases z : b = 0
      · rw [z]; decide
      · rw [nI_m1 (by omega), nI_ltE (by omega) (by omega)]
        omega
    simp only [fX6_qBracket_7, t6, if_pos lt, fX6_qBracket_33, brS, if_true]
  | cons o S ih =>
    intro fu h1 h2 h3 h4
    obtain ⟨fu, rfl⟩ : ∃ n, fu = n + 1 := ⟨fu - 1, by omega⟩
    simp only [List.length_cons] at h1 h2
    have ho := h4 o List.mem_cons_self
    have e1 : nI (b + (o :: S).length) - 1 = nI (b + S.length) := by rw [List.length_cons, nI_m1 (by omega)]; exact congrArg nI (by omega)
    have nlt : ¬ nI (b + S.length) < nI b := by rw [nI_ltE (by omega) (by omega)]; omega
    have e2 : nI (b + S.length) + -1 = nI (b + S.length) - 1 := (Int32.sub_eq_add_neg _ _).symm
    have k1 : (nI o < (20 : Int32)) = (o < 20) := nI_ltE (b := 20) (by omega) (by omega)
    have k2 : ((24 : Int32) < nI o) = (24 < o) := nI_ltE (a := 24) (by omega) (by omega)
    have isb : fX6_qIsBracket σ (nI o) = some (if isBr o then 1 else 0) := by
      simp only [fX6_qIsBracket, k1, k2]
      by_cases z : o < 20
      · rw [if_pos z, if_neg (by omega)]
      · rw [if_neg z]
        by_cases z2 : 24 < o
        · rw [if_pos z2, if_neg (by omega)]
        · rw [if_neg z2, if_pos (by omega)]
    rw [e1]
    have bE : brS (o :: S) = if isBr o then o else brS S := rfl
    by_cases z : isBr o
    · rw [if_pos z] at bE isb
      rw [bE, if_neg (by have := z.1; omega)]
      simp only [fX6_qBracket_7, t6, if_neg nlt, tg93 (show b + S.length < 1700 by omega), bsm, h3.1, isb, if_neg n01, fX6_qBracket_33]
    · rw [if_neg z] at bE isb
      rw [bE]
      have := ih fu (by omega) (by omega) h3.2 (fun x hx => h4 x (List.mem_cons_of_mem _ hx))
      rw [← this, ← e2]
      simp only [fX6_qBracket_7, t6, if_neg nlt, tg93 (show b + S.length < 1700 by omega), bsm, h3.1, isb, if_true]
theorem TQ.brk (T : TQ σ0 B L m b σ p S O d) : fX6_qBracket σ = some (if brS S = 0 then -1 else nI (brS S)) := by
  have hb := T.bd
  have := brk_o T S FU (FU_lt (by omega)) (Nat.le_refl _) T.2.2.1 T.2.2.2.2.2.2.2.2.2
  unfold fX6_qBracket
  rw [T.2.1.2.2.2.1]
  exact this
end PCO

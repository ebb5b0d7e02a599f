/-! PARSER, the twin's tests are the machine's -/
set_option maxRecDepth 100000
def tG (n : Nat) (x10 : MS × Int32) : Option MS := if x10.2 = 0 then fX6_qTest_105 (fun σ' b1 => fX6_qTest_2 n σ' b1) x10.1 else fX6_qTest_106 (fun σ' b1 => fX6_qTest_2 n σ' b1) x10.1 (1 : Int32)
def RET (σ0 : MS) (B : Nat → Nat) (L m : Nat) (r : Option MS) (mr : PRes) : Prop := match mr with
  | .inl e => e.1 ≠ 0 → ∃ σ', r = some σ' ∧ σ'.1 5 = nI e.1 ∧ σ'.1 6 = nI e.2 ∧ FQ σ0 σ'
  | .inr (p', O') => ∃ σ' d', r = some σ' ∧ TQ σ0 B L m 0 σ' p' [] O' d'
/-- signs of tests -/
def wt (S : List Nat) : Prop := ∀ o, o ∈ S → o = 10 ∨ o = 11 ∨ o = 12 ∨ o = 25
section PTD
variable {B : Nat → Nat} {L m b p q p1 d d0 k c o n f g j v fu N : Nat} {S S' O O' cs : List Nat} {σ0 σ1 σ σ' : MS} {x a1 : Int32} {e : Nat × Nat}
theorem FQ.tr (h : FQ σ0 σ1) (g : FQ σ1 σ) : FQ σ0 σ := ⟨g.1.trans h.1, g.2.1.trans h.2.1, fun k a b => (g.2.2.1 k a b).trans (h.2.2.1 k a b), fun k a b c d e f i j l => (g.2.2.2 k a b c d e f i j l).trans (h.2.2.2 k a b c d e f i j l)⟩
theorem xA_sk (hp : p ≤ L) : xA B L m (sk B L p) S O d = xA B L m p S O d := by
  rw [xA_s (sk_le hp), xA_s hp, sk_sk, wdA_sk, nu_sk]
theorem tF_sk (hp : p ≤ L) : tF B L m d (sk B L p) O = tF B L m d p O := by
  unfold tF
  rw [sk_sk, xA_sk hp]
theorem xA_j {O1 : List Nat} (hd6 : d ≤ 6) (hp : p ≤ L) (h : xA B L m p [] O d = .inr (p1, O1)) : O1.length + p ≤ O.length + p1 := by
  have hok : d ≠ 6 → ∀ t p, p ≤ L → okP B L m p (psD B L m 64 t (d + 1) p) := fun h t p hp => psD_ok 64 t (d + 1) p (by omega) (by omega) hp
  have ok := sum_ok (B := B) (m := m) (rs := psD B L m 64) (d := d) hp hok
  rw [sumM_top (n := 64) hd6 hp (by omega)] at h
  cases hpr : sumP B L m (psD B L m 64) d p with
  | inl e =>
    rw [hpr] at h
    cases h
  | inr e =>
    obtain ⟨p2, c2⟩ := e
    rw [hpr] at h ok
    cases h
    have o1 := ok.1
    have o2 := ok.2.1
    have g := @sk_ge p2 L B
    rw [List.length_append]
    omega
theorem xA_n (hd6 : d ≤ 6) (hp : p ≤ L) (h : xA B L m p [] O d = .inl e) : e.1 ≠ 0 := by
  have hok : d ≠ 6 → ∀ t p, p ≤ L → okP B L m p (psD B L m 64 t (d + 1) p) := fun h t p hp => psD_ok 64 t (d + 1) p (by omega) (by omega) hp
  have ok := sum_ok (B := B) (m := m) (rs := psD B L m 64) (d := d) hp hok
  rw [sumM_top (n := 64) hd6 hp (by omega)] at h
  cases hpr : sumP B L m (psD B L m 64) d p with
  | inl e' =>
    rw [hpr] at h ok
    cases h
    have := ok.1
    omega
  | inr e' =>
    rw [hpr] at h
    cases h
/-- a sum within a test -/
theorem sumT (hm : m < 4) (T : TQ σ0 B L m 0 σ p S O d) (hw : wt S) (hb : O.length + S.length ≤ p) : match xA B L m p [] O d with
    | .inl e => ∃ σ', fX6_qSums σ = some σ' ∧ EQ σ0 0 e σ'
    | .inr (p', O') => ∃ σ', fX6_qSums σ = some σ' ∧ TQ σ0 B L m 0 σ' p' S O' d ∧ O'.length + S.length + p ≤ O.length + S.length + p' ∧ p' ≤ L ∧ sk B L p' = p' := by
  have hbd := T.bd
  have hpL := T.1.1.2.2.1
  have t := T
  obtain ⟨⟨t1, t2, t3⟩, ⟨t4, t5, t6, t7, t8, t9⟩, t10, t11, t12, t13, t14, t15, t16, t17⟩ := t
  rw [Nat.zero_add] at t7
  have bz : Bz (σ.2.2.1 93) S.length := by
    cases S with
    | nil => exact Or.inl rfl
    | cons o S =>
      refine Or.inr ⟨o, ?_, ?_, t17 o List.mem_cons_self⟩
      · have := t10.1
        rw [Nat.zero_add] at this
        exact this
      · have := hw o List.mem_cons_self
        omega
  have T1 : TQ σ B L m S.length (sI σ 96 (σ.1 94)) p [] O d := ⟨⟨t1.to rfl (sI_n (by omega)) (sI_n (by omega)), t2.to (sI_n (by omega)), t3.fr (fun _ _ _ => rfl)⟩, ⟨by rw [sI_n (by omega)]; exact t4, by rw [sI_n (by omega)]; exact t5, by rw [sI_s]; exact t7, by rw [sI_n (by omega)]; exact t7, by rw [sI_n (by omega)]; exact t8, by rw [sI_n (by omega)]; exact t9⟩, trivial, fun _ _ => rfl, t12, (FQ.refl σ).si (by omega), ⟨t14.1, rfl⟩, bz, by simp only [List.length_nil]; omega, fun o ho => by cases ho⟩
  have J := qSums_o hm T1 (by omega)
  rw [t6] at J
  cases hx : xA B L m p [] O d with
  | inl e =>
    rw [hx] at J
    obtain ⟨σ', j1, j2, j3, j4, j5, j6⟩ := J (xA_n t14.1 hpL hx)
    exact ⟨σ', j1, j2, j3, j4, t13.tr j5, j6⟩
  | inr e =>
    obtain ⟨p1, O1⟩ := e
    rw [hx] at J
    obtain ⟨σ', j1, j2⟩ := J
    obtain ⟨x1, x2, x3⟩ := xA_i t14.1 hpL hx
    have x4 := xA_j t14.1 hpL hx
    obtain ⟨⟨u1, u2, u3⟩, ⟨u4, u5, u6, u7, u8, u9⟩, u10, u11, u12, u13, u14, u15, u16, u17⟩ := j2
    refine ⟨_, j1, ⟨⟨u1.to rfl (sI_n (by omega)) (sI_n (by omega)), u2.to (sI_n (by omega)), u3.fr (fun _ _ _ => rfl)⟩, ⟨by rw [sI_n (by omega)]; exact u4, by rw [sI_n (by omega)]; exact u5, sI_s, ?_, by rw [sI_n (by omega)]; exact u8, by rw [sI_n (by omega)]; exact u9⟩, ?_, ?_, u12, (t13.tr u13).si (by omega), ⟨t14.1, u14.2.trans t14.2⟩, t15, by omega, t17⟩, by omega, x2, x3⟩
    · rw [sI_n (by omega), u7, Nat.zero_add]
      rfl
    · exact t10.to (fun i h1 h2 => u11 i (by omega))
    · exact fun i hi => absurd hi (by omega)
/-- one fact -/
theorem factT (hm : m < 4) (T : TQ σ0 B L m 0 σ q S O d) (ss : sk B L q = q) (hw : wt S) (hb : O.length + S.length ≤ q) : match tF B L m d q O with
    | .inl e => ∃ σ', fX6_qFact σ = some σ' ∧ (σ'.1 5 = nI e.1 ∧ e.1 ≠ 0 ∧ e.1 < 100) ∧ σ'.1 6 = nI e.2 ∧ FQ σ0 σ'
    | .inr (p', O') => ∃ σ', fX6_qFact σ = some σ' ∧ TQ σ0 B L m 0 σ' p' S O' d ∧ O'.length + S.length ≤ p' ∧ q < p' := by
  have hbd := T.bd
  have d6 := T.2.2.2.2.2.2.1.1
  obtain ⟨σ1, k1, T1⟩ := takes_q (k := 80) T ss (by unfold isW; omega)
  unfold tF
  rw [ss]
  by_cases z : HW B L q (wdL 80)
  · rw [if_pos z] at k1 T1 ⊢
    have wgt := we_gt z.1.1
    obtain ⟨σ2, a2, T2⟩ := T1.code (c := 13) (by omega)
    refine ⟨σ2, ?_, T2, by simp only [List.length_append, List.length_cons, List.length_nil]; omega, by omega⟩
    rw [show nI 13 = (13 : Int32) from rfl] at a2
    simp only [fX6_qFact, k1, bsm, if_neg n01, a2]
  rw [if_neg z] at k1 T1 ⊢
  have err : ∀ e : Nat × Nat, xA B L m q [] O d = .inl e ∨ (∃ p O, p ≤ L ∧ xA B L m p [] O d = .inl e) → e.1 ≠ 0 ∧ e.1 < 100 := fun e h => by
    have go : ∀ p O, p ≤ L → xA B L m p [] O d = .inl e → e.1 ≠ 0 ∧ e.1 < 100 := fun p O hp h => by
      have hok : d ≠ 6 → ∀ t p, p ≤ L → okP B L m p (psD B L m 64 t (d + 1) p) := fun h t p hp => psD_ok 64 t (d + 1) p (by omega) (by omega) hp
      have ok := sum_ok (B := B) (m := m) (rs := psD B L m 64) (d := d) hp hok
      rw [sumM_top (n := 64) d6 hp (by omega)] at h
      cases hpr : sumP B L m (psD B L m 64) d p with
      | inl e' =>
        rw [hpr] at h ok
        cases h
        have := ok.1
        omega
      | inr e' =>
        rw [hpr] at h
        cases h
    rcases h with h | ⟨p, O, hp, h⟩
    · exact go q O hbd.2.1 h
    · exact go p O hp h
  have J := sumT hm T1 hw hb
  cases hx : xA B L m q [] O d with
  | inl e =>
    rw [hx] at J
    obtain ⟨σ', j1, j2, j3, j4, j5, j6⟩ := J
    obtain ⟨e1, e2⟩ := err e (Or.inl hx)
    refine ⟨σ', ?_, ⟨j2, e1, e2⟩, j3, j5⟩
    have n5 : ¬ σ'.1 5 = 0 := by rw [j2]; exact nz_k e1 e2
    simp only [fX6_qFact, k1, bsm, if_true, j1, if_neg n5]
  | inr e =>
    obtain ⟨p1, O1⟩ := e
    rw [hx] at J
    obtain ⟨σ2, j1, T2, b2, l2, s2⟩ := J
    have lk := T2.1.1.look
    rw [s2, sI_id T2.1.1.2.2.2.2] at lk
    have h5 := T2.2.1.1
    have e2 := T2.1.1.2.2.2.2
    have hL := T2.1.1.2.1
    have x1 := (xA_i d6 hbd.2.1 hx).1
    have c60 : (chI B L p1 = (60 : Int32)) = SI B L p1 60 := ch_eq (c := 60) T2.1.1.lt hL (by omega)
    have c62 : (chI B L p1 = (62 : Int32)) = SI B L p1 62 := ch_eq (c := 62) T2.1.1.lt hL (by omega)
    have c61 : (chI B L p1 = (61 : Int32)) = SI B L p1 61 := ch_eq (c := 61) T2.1.1.lt hL (by omega)
    have st : fX6_qFact σ = if SI B L p1 60 then fX6_qFact_63 σ2 (chI B L p1) else if SI B L p1 62 then fX6_qFact_63 σ2 (chI B L p1) else if SI B L p1 61 then fX6_qFact_63 σ2 (chI B L p1) else some (sI (sI σ2 5 1) 6 (nI p1)) := by
      simp only [fX6_qFact, k1, bsm, if_true, j1, h5, lk, c60, c62, c61, fail_o h5, e2]
    have go : ∀ c v : Nat, SI B L p1 c → (c = 60 ∧ v = 7 ∨ c = 62 ∧ v = 8 ∨ c = 61 ∧ v = 9) → (match (pb (xA B L m (p1 + 1) [] O1 d) fun p2 O2 => (.inr (p2, O2 ++ [v]) : PRes)) with
        | .inl e => ∃ σ', fX6_qFact_63 σ2 (chI B L p1) = some σ' ∧ (σ'.1 5 = nI e.1 ∧ e.1 ≠ 0 ∧ e.1 < 100) ∧ σ'.1 6 = nI e.2 ∧ FQ σ0 σ'
        | .inr (p', O') => ∃ σ', fX6_qFact_63 σ2 (chI B L p1) = some σ' ∧ TQ σ0 B L m 0 σ' p' S O' d ∧ O'.length + S.length ≤ p' ∧ q < p') := by
      intro c v z hc
      have z1 := z.1
      have ch : chI B L p1 = nI c := by rw [chI, if_pos z.1, z.2]
      have T3 := T2.sg (by rw [s2]; exact z1) (by rw [s2]; exact noL (by omega) z)
      rw [s2] at T3
      have J2 := sumT hm T3 hw (by omega)
      have base : fX6_qFact_63 σ2 (chI B L p1) = (fX6_qSums (sI σ2 2 (nI (p1 + 1)))).bind fun x1 => (fX6_qCode x1 (nI v)).bind fun x => some x := by
        rw [ch]
        rcases hc with ⟨rfl, rfl⟩ | ⟨rfl, rfl⟩ | ⟨rfl, rfl⟩
        · simp only [fX6_qFact_63, e2, nI_1, if_pos (show nI 60 = (60 : Int32) from rfl), fX6_qFact_102]
          rfl
        · simp only [fX6_qFact_63, e2, nI_1, if_neg (show ¬ nI 62 = (60 : Int32) by decide), if_pos (show nI 62 = (62 : Int32) from rfl), fX6_qFact_102]
          rfl
        · simp only [fX6_qFact_63, e2, nI_1, if_neg (show ¬ nI 61 = (60 : Int32) by decide), if_neg (show ¬ nI 61 = (62 : Int32) by decide), fX6_qFact_102]
          rfl
      rw [base]
      cases hx2 : xA B L m (p1 + 1) [] O1 d with
      | inl e =>
        rw [hx2] at J2
        obtain ⟨σ', j1, j2, j3, j4, j5, k, j6, j7⟩ := J2
        obtain ⟨e1, e2⟩ := err e (Or.inr ⟨p1 + 1, O1, z1, hx2⟩)
        refine ⟨sI (sA σ' 91 k (nI v)) 92 (nI (k + 1)), ?_, ⟨?_, e1, e2⟩, ?_, (j5.sa (Or.inl rfl)).si (by omega)⟩
        · rw [j1, bsm]
          simp only [fX6_qCode, j7, tp91 (show k < 1700 by omega), bsm, sA_1, nI_1]
        · rw [sI_n (by omega)]
          exact j2
        · rw [sI_n (by omega)]
          exact j3
      | inr e =>
        obtain ⟨p2, O2⟩ := e
        rw [hx2] at J2
        obtain ⟨σ3, j1, T4, b4, l4, s4⟩ := J2
        have x2 := (xA_i d6 (show p1 + 1 ≤ L from z1) hx2).1
        obtain ⟨σ4, a4, T5⟩ := T4.code (c := v) (by omega)
        refine ⟨σ4, ?_, T5, by simp only [List.length_append, List.length_cons, List.length_nil]; omega, by omega⟩
        rw [j1, bsm, a4, bsm]
    show (match (if SI B L (sk B L p1) 60 then pb (xA B L m (sk B L p1 + 1) [] O1 d) fun p2 O2 => (.inr (p2, O2 ++ [7]) : PRes) else if SI B L (sk B L p1) 62 then pb (xA B L m (sk B L p1 + 1) [] O1 d) fun p2 O2 => .inr (p2, O2 ++ [8]) else if SI B L (sk B L p1) 61 then pb (xA B L m (sk B L p1 + 1) [] O1 d) fun p2 O2 => .inr (p2, O2 ++ [9]) else .inl (1, sk B L p1)) with
      | .inl e => ∃ σ', fX6_qFact σ = some σ' ∧ (σ'.1 5 = nI e.1 ∧ e.1 ≠ 0 ∧ e.1 < 100) ∧ σ'.1 6 = nI e.2 ∧ FQ σ0 σ'
      | .inr (p', O') => ∃ σ', fX6_qFact σ = some σ' ∧ TQ σ0 B L m 0 σ' p' S O' d ∧ O'.length + S.length ≤ p' ∧ q < p')
    rw [s2, st]
    by_cases y : SI B L p1 60
    · simp only [if_pos y]
      exact go 60 7 y (Or.inl ⟨rfl, rfl⟩)
    simp only [if_neg y]
    by_cases y : SI B L p1 62
    · simp only [if_pos y]
      exact go 62 8 y (Or.inr (Or.inl ⟨rfl, rfl⟩))
    simp only [if_neg y]
    by_cases y : SI B L p1 61
    · simp only [if_pos y]
      exact go 61 9 y (Or.inr (Or.inr ⟨rfl, rfl⟩))
    simp only [if_neg y]
    exact ⟨_, rfl, ⟨by rw [sI_n (by omega)]; exact sI_s, by omega, by omega⟩, sI_s, (T2.fq.si (by omega)).si (by omega)⟩
end PTD

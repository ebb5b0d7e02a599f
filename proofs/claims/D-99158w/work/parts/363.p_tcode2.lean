/-! PARSER, the twin's tests are the machine's (2) -/
set_option maxRecDepth 100000
section PTE
variable {B : Nat → Nat} {L m b p q p1 d d0 k c o n f g j v fu N : Nat} {S S' O O' cs : List Nat} {σ0 σ1 σ σ' : MS} {x a1 : Int32} {e : Nat × Nat}
theorem on_0 (T : TQ σ0 B L m 0 σ p [] O d) (x : Int32) : fX6_qIsOn σ x = some 0 := by
  have t7 := T.2.1.2.2.2.1
  have k : (nI (0 + ([] : List Nat).length) ≤ 0) = True := by decide
  simp only [fX6_qIsOn, t7, k, if_true]
theorem wt_t (h : wt (o :: S)) : wt S := fun x hx => h x (List.mem_cons_of_mem _ hx)
theorem en_c : ∀ (S O : List Nat) (d : Nat), cq S ≤ d → wt S → cq (en S O d).1 ≤ (en S O d).2.2 ∧ wt (en S O d).1 ∧ (en S O d).1.length + (en S O d).2.1.length = S.length + O.length
  | [], O, d, h, hw => ⟨h, hw, rfl⟩
  | o :: S, O, d, h, hw => by
    rw [en]
    by_cases z : o = 12
    · rw [if_pos z]
      rw [cq_c, if_pos (by omega)] at h
      obtain ⟨h1, h2, h3⟩ := en_c S (O ++ [o]) (d - 1) (by omega) (wt_t hw)
      refine ⟨h1, h2, ?_⟩
      rw [h3]
      simp only [List.length_append, List.length_cons, List.length_nil]
      omega
    · rw [if_neg z]
      exact ⟨h, hw, rfl⟩
/-- what says not is told -/
theorem nots_o : ∀ (S O : List Nat) (d : Nat) (σ : MS) (fu : Nat), S.length < fu → cq S ≤ d → TQ σ0 B L m 0 σ p S O d → ∃ σ', fX6_qDropsNots_0 fu σ = some σ' ∧ TQ σ0 B L m 0 σ' p (en S O d).1 (en S O d).2.1 (en S O d).2.2
  | [], O, d, σ, fu, hf, hc, T => by
    obtain ⟨fu, rfl⟩ : ∃ n, fu = n + 1 := ⟨fu - 1, by omega⟩
    have h5 := T.2.1.1
    exact ⟨σ, by simp only [fX6_qDropsNots_0, h5, if_true, on_0 T, bsm], T⟩
  | o :: S, O, d, σ, fu, hf, hc, T => by
    simp only [List.length_cons] at hf
    obtain ⟨fu, rfl⟩ : ∃ n, fu = n + 1 := ⟨fu - 1, by omega⟩
    have h5 := T.2.1.1
    have d6 := T.2.2.2.2.2.2.1.1
    have t8 := T.2.1.2.2.2.2.1
    have o12 := on_c (c := 12) T (by omega)
    rw [show nI 12 = (12 : Int32) from rfl] at o12
    rw [en]
    by_cases z : o = 12
    · rw [if_pos z] at o12 ⊢
      rw [cq_c, if_pos (by omega)] at hc
      have e1 : nI d - 1 = nI (d - 1) := nI_m1 (by omega)
      obtain ⟨σ1, a1, T1⟩ := (T.dep (d' := d - 1) (by omega)).drop
      obtain ⟨σ', a2, T2⟩ := nots_o S (O ++ [o]) (d - 1) σ1 fu (by omega) (by omega) T1
      refine ⟨σ', ?_, T2⟩
      simp only [fX6_qDropsNots_0, h5, if_true, o12, bsm, if_neg n01, t8, e1, a1, a2]
    · rw [if_neg z] at o12 ⊢
      refine ⟨σ, ?_, T⟩
      simp only [fX6_qDropsNots_0, h5, if_true, o12, bsm]
theorem TQ.nots (T : TQ σ0 B L m 0 σ p S O d) (hc : cq S ≤ d) : ∃ σ', fX6_qDropsNots σ = some σ' ∧ TQ σ0 B L m 0 σ' p (en S O d).1 (en S O d).2.1 (en S O d).2.2 := by
  have hb := T.bd
  exact nots_o S O d σ FU (FU_lt (by omega)) hc T
theorem SkO.mem {f : Nat → Int32} : ∀ (S : List Nat), SkO f b S → (∀ o, o ∈ S → o < 100) → ((∃ i, b ≤ i ∧ i < b + S.length ∧ f i = nI 25) ↔ 25 ∈ S)
  | [], h, ho => ⟨fun ⟨i, h1, h2, h3⟩ => by simp only [List.length_nil] at h2; omega, fun h => by cases h⟩
  | o :: S, h, ho => by
    have ih := SkO.mem S h.2 (fun x hx => ho x (List.mem_cons_of_mem _ hx))
    have ho1 := ho o List.mem_cons_self
    have kk : (nI o = nI 25) = (o = 25) := nI_eqE (by omega) (by omega)
    constructor
    · rintro ⟨i, h1, h2, h3⟩
      simp only [List.length_cons] at h2
      by_cases z : i = b + S.length
      · rw [z, h.1, kk] at h3
        rw [h3]
        exact List.mem_cons_self
      · exact List.mem_cons_of_mem _ (ih.mp ⟨i, h1, by omega, h3⟩)
    · intro hm
      rcases List.mem_cons.mp hm with z | z
      · exact ⟨b + S.length, by omega, by simp, by rw [h.1, ← z]⟩
      · obtain ⟨i, h1, h2, h3⟩ := ih.mpr z
        exact ⟨i, h1, by simp only [List.length_cons]; omega, h3⟩
/-- is a square open? -/
theorem TQ.sq (T : TQ σ0 B L m 0 σ p S O d) : fX6_qHasSquare σ = some (if 25 ∈ S then 1 else 0) := by
  have hb := T.bd
  have t7 := T.2.1.2.2.2.1
  rw [Nat.zero_add] at t7
  have mm := SkO.mem S T.2.2.1 T.2.2.2.2.2.2.2.2.2
  unfold fX6_qHasSquare
  refine lp1z (F := fun n (_ : Unit) k => fX6_qHasSquare_2 σ n k) (N := S.length) (x := ()) (I := fun k _ => ∀ i, i < k → ¬ σ.2.2.1 93 i = nI 25) (P := fun o => o = some (if 25 ∈ S then 1 else 0)) (by omega) (fun i hi => absurd hi (by omega)) ?_ ?_
  · intro n _ k hk hv
    have kk := nI_ge hk (show S.length < 2 ^ 31 by omega)
    by_cases z : σ.2.2.1 93 k = nI 25
    · refine Or.inr ?_
      have : 25 ∈ S := mm.mp ⟨k, by omega, by omega, z⟩
      have z' : σ.2.2.1 93 k = (25 : Int32) := z
      simp only [fX6_qHasSquare_2, t7, if_neg kk, tg93 (show k < 1700 by omega), bsm, z', if_true, if_pos this]
    · refine Or.inl ⟨(), fun i hi => ?_, ?_⟩
      · by_cases y : i = k
        · subst y; exact z
        · exact hv i (by omega)
      · have z' : ¬ σ.2.2.1 93 k = (25 : Int32) := z
        simp only [fX6_qHasSquare_2, t7, if_neg kk, tg93 (show k < 1700 by omega), bsm, if_neg z', nI_1]
  · intro n _ hv
    have kk := nI_le (Nat.le_refl S.length) (show S.length < 2 ^ 31 by omega)
    have : ¬ 25 ∈ S := fun h => by
      obtain ⟨i, h1, h2, h3⟩ := mm.mpr h
      exact hv i (by omega) h3
    simp only [fX6_qHasSquare_2, t7, if_pos kk, if_neg this]
theorem dw25 : ∀ (S O : List Nat), 25 ∈ S → ∃ S2, (dw n25 S O).1 = 25 :: S2 ∧ (wt S → wt S2) ∧ cq (25 :: S2) ≤ cq S
  | [], O, h => by cases h
  | o :: S, O, h => by
    rw [dw]
    by_cases z : o = 25
    · rw [if_neg (fun y => y z)]
      exact ⟨S, by rw [z], wt_t, by rw [z]; exact Nat.le_refl _⟩
    · rw [if_pos z]
      have h' : 25 ∈ S := (List.mem_cons.mp h).resolve_left (fun y => z y.symm)
      obtain ⟨S2, h1, h2, h3⟩ := dw25 S (O ++ [o]) h'
      exact ⟨S2, h1, fun w => h2 (wt_t w), by rw [cq_c (o := o)]; omega⟩
/-- down to the square -/
theorem sq33 (k0 : MS → Option (MS × Int32)) : ∀ (S O : List Nat) (σ : MS) (fu : Nat), S.length < fu → 25 ∈ S → TQ σ0 B L m 0 σ p S O d → ∃ σ' S2, (dw n25 S O).1 = 25 :: S2 ∧ TQ σ0 B L m 0 σ' p (25 :: S2) (dw n25 S O).2 d ∧ fX6_qGoesOnTest_33 k0 fu σ = (fX6_qDropsNots (sI (sI σ' 94 ((σ'.1 94) - (1 : Int32))) 95 (((sI σ' 94 ((σ'.1 94) - (1 : Int32))).1 95) - (1 : Int32)))).bind fun x3 => k0 x3
  | [], O, σ, fu, hf, h, T => by cases h
  | o :: S, O, σ, fu, hf, h, T => by
    simp only [List.length_cons] at hf
    obtain ⟨fu, rfl⟩ : ∃ n, fu = n + 1 := ⟨fu - 1, by omega⟩
    have o25 := on_c (c := 25) T (by omega)
    rw [show nI 25 = (25 : Int32) from rfl] at o25
    rw [dw]
    by_cases z : o = 25
    · rw [if_neg (fun y => y z)]
      rw [if_pos z] at o25
      subst z
      refine ⟨σ, S, rfl, T, ?_⟩
      simp only [fX6_qGoesOnTest_33, o25, bsm, if_neg n01]
    · rw [if_pos z]
      rw [if_neg z] at o25
      have h' : 25 ∈ S := (List.mem_cons.mp h).resolve_left (fun y => z y.symm)
      obtain ⟨σ1, a1, T1⟩ := T.drop
      obtain ⟨σ', S2, h1, T2, e2⟩ := sq33 k0 S (O ++ [o]) σ1 fu (by omega) h' T1
      refine ⟨σ', S2, h1, T2, ?_⟩
      rw [← e2]
      simp only [fX6_qGoesOnTest_33, o25, bsm, if_true, a1]
/-- and comes to wait -/
theorem w87 : ∀ (S O : List Nat) (σ : MS) (fu : Nat), S.length < fu → O.length + S.length + 1 ≤ p + 2 → TQ σ0 B L m 0 σ p S O d → ∃ σ', fX6_qGoesOnTest_87 fu σ = some (σ', 1) ∧ TQ σ0 B L m 0 σ' p (10 :: (dw e10 S O).1) (dw e10 S O).2 d
  | [], O, σ, fu, hf, hb, T => by
    obtain ⟨fu, rfl⟩ : ∃ n, fu = n + 1 := ⟨fu - 1, by omega⟩
    obtain ⟨σ1, a1, a2, T1⟩ := T.push (o := 10) (by simp only [List.length_nil] at hb ⊢; omega) (by omega)
    refine ⟨_, ?_, T1⟩
    rw [show nI 10 = (10 : Int32) from rfl] at a1
    simp only [fX6_qGoesOnTest_87, on_0 T, bsm, if_true, a1, a2, nI_1]
  | o :: S, O, σ, fu, hf, hb, T => by
    simp only [List.length_cons] at hf hb
    obtain ⟨fu, rfl⟩ : ∃ n, fu = n + 1 := ⟨fu - 1, by omega⟩
    have o1 := on_c (c := 10) T (by omega)
    rw [show nI 10 = (10 : Int32) from rfl] at o1
    rw [dw]
    by_cases z : o = 10
    · rw [if_pos z] at o1
      rw [if_pos (show e10 o from z)]
      obtain ⟨σ1, a1, T1⟩ := T.drop
      obtain ⟨σ', a2, T2⟩ := w87 S (O ++ [o]) σ1 fu (by omega) (by simp only [List.length_append, List.length_cons, List.length_nil]; omega) T1
      refine ⟨σ', ?_, T2⟩
      simp only [fX6_qGoesOnTest_87, o1, bsm, if_neg n01, a1, a2]
    · rw [if_neg z] at o1
      rw [if_neg (show ¬ e10 o from z)]
      obtain ⟨σ1, a1, a2, T1⟩ := T.push (o := 10) (by simp only [List.length_cons]; omega) (by omega)
      refine ⟨_, ?_, T1⟩
      rw [show nI 10 = (10 : Int32) from rfl] at a1
      simp only [fX6_qGoesOnTest_87, o1, bsm, if_true, a1, a2, nI_1]
/-- or -/
theorem w137 : ∀ (S O : List Nat) (σ : MS) (fu : Nat), S.length < fu → O.length + S.length + 1 ≤ p + 2 → TQ σ0 B L m 0 σ p S O d → ∃ σ', fX6_qGoesOnTest_137 fu σ = some (σ', 1) ∧ TQ σ0 B L m 0 σ' p (11 :: (dw e1011 S O).1) (dw e1011 S O).2 d
  | [], O, σ, fu, hf, hb, T => by
    obtain ⟨fu, rfl⟩ : ∃ n, fu = n + 1 := ⟨fu - 1, by omega⟩
    obtain ⟨σ1, a1, a2, T1⟩ := T.push (o := 11) (by simp only [List.length_nil] at hb ⊢; omega) (by omega)
    refine ⟨_, ?_, T1⟩
    rw [show nI 11 = (11 : Int32) from rfl] at a1
    simp only [fX6_qGoesOnTest_137, on_0 T, bsm, if_true, a1, a2, nI_1]
  | o :: S, O, σ, fu, hf, hb, T => by
    simp only [List.length_cons] at hf hb
    obtain ⟨fu, rfl⟩ : ∃ n, fu = n + 1 := ⟨fu - 1, by omega⟩
    have o1 := on_c (c := 10) T (by omega)
    have o2 := on_c (c := 11) T (by omega)
    rw [show nI 10 = (10 : Int32) from rfl] at o1
    rw [show nI 11 = (11 : Int32) from rfl] at o2
    rw [dw]
    by_cases z : e1011 o
    · rw [if_pos z]
      obtain ⟨σ1, a1, T1⟩ := T.drop
      obtain ⟨σ', a2, T2⟩ := w137 S (O ++ [o]) σ1 fu (by omega) (by simp only [List.length_append, List.length_cons, List.length_nil]; omega) T1
      refine ⟨σ', ?_, T2⟩
      rcases z with z | z
      · rw [if_pos z] at o1
        simp only [fX6_qGoesOnTest_137, o1, bsm, if_neg n01, fX6_qGoesOnTest_155, a1, a2]
      · rw [if_neg (by omega)] at o1
        rw [if_pos z] at o2
        simp only [fX6_qGoesOnTest_137, o1, bsm, if_true, o2, if_neg n01, fX6_qGoesOnTest_155, a1, a2]
    · rw [if_neg z]
      rw [if_neg (fun y => z (Or.inl y))] at o1
      rw [if_neg (fun y => z (Or.inr y))] at o2
      obtain ⟨σ1, a1, a2, T1⟩ := T.push (o := 11) (by simp only [List.length_cons]; omega) (by omega)
      refine ⟨_, ?_, T1⟩
      rw [show nI 11 = (11 : Int32) from rfl] at a1
      simp only [fX6_qGoesOnTest_137, o1, bsm, if_true, o2, a1, a2, nI_1]
/-- all that waits is told -/
theorem t110 : ∀ (S O : List Nat) (σ : MS) (fu : Nat), S.length < fu → TQ σ0 B L m 0 σ p S O d → ∃ σ', fX6_qTest_110 fu σ = some σ' ∧ TQ σ0 B L m 0 σ' p [] (O ++ S) d
  | [], O, σ, fu, hf, T => by
    obtain ⟨fu, rfl⟩ : ∃ n, fu = n + 1 := ⟨fu - 1, by omega⟩
    have h5 := T.2.1.1
    have t7 := T.2.1.2.2.2.1
    have k : (nI (0 + ([] : List Nat).length) ≤ 0) = True := by decide
    exact ⟨σ, by simp only [fX6_qTest_110, h5, if_true, t7, k], by rw [List.append_nil]; exact T⟩
  | o :: S, O, σ, fu, hf, T => by
    have hb := T.bd
    simp only [List.length_cons] at hf hb
    obtain ⟨fu, rfl⟩ : ∃ n, fu = n + 1 := ⟨fu - 1, by omega⟩
    obtain ⟨n1, n2, n3, n4, n5, n6, n7⟩ := T.top
    have k : (nI (0 + (S.length + 1)) ≤ 0) = False := by rw [nI_le0 (by omega)]; exact eq_false (by omega)
    obtain ⟨σ1, a1, T1⟩ := T.drop
    obtain ⟨σ', a2, T2⟩ := t110 S (O ++ [o]) σ1 fu (by omega) T1
    rw [List.append_assoc] at T2
    refine ⟨σ', ?_, T2⟩
    simp only [fX6_qTest_110, n7, if_true, n1, k, if_false, bsm, a1, a2]
theorem dw_mem {q : Nat → Prop} [DecidablePred q] : ∀ (S O : List Nat) (x : Nat), x ∈ (dw q S O).1 → x ∈ S
  | [], O, x, h => h
  | o :: S, O, x, h => by
    rw [dw] at h
    by_cases z : q o
    · rw [if_pos z] at h
      exact List.mem_cons_of_mem _ (dw_mem S (O ++ [o]) x h)
    · rw [if_neg z] at h
      exact h
def IHTA (σ0 : MS) (B : Nat → Nat) (L m N : Nat) : Prop := ∀ p S O d σ n, TQ σ0 B L m 0 σ p S O d → wt S → cq S ≤ d → O.length + S.length ≤ p → L - p + 2 ≤ n → RET σ0 B L m (fX6_qTest_2 n σ 1) (tM B L m N true p S O d)
def IHTG (σ0 : MS) (B : Nat → Nat) (L m N : Nat) : Prop := ∀ p S O d σ n g, TQ σ0 B L m 0 σ p S O d → wt S → cq S ≤ d → O.length + S.length ≤ p → L - p + 2 ≤ n → L - p + 1 ≤ g → RET σ0 B L m ((fX6_qGoesOnTest_0 g σ).bind (tG n)) (tM B L m N false p S O d)
theorem t110_5 (h : ¬ σ.1 5 = 0) : fX6_qTest_110 FU σ = some σ := by
  obtain ⟨fu, hf⟩ : ∃ fu, FU = fu + 1 := ⟨99999, rfl⟩
  rw [hf]
  simp only [fX6_qTest_110, if_neg h]
theorem reT {x y : Nat} {σ : MS} (h5 : σ.1 5 = nI x) (h6 : σ.1 6 = nI y) (hx : x < 100) (F : FQ σ0 σ) (hn : 1 ≤ n) : RET σ0 B L m (fX6_qTest_2 n σ 1) (.inl (x, y)) := fun h => by
  obtain ⟨n, rfl⟩ : ∃ k, n = k + 1 := ⟨n - 1, by omega⟩
  have n5 : ¬ σ.1 5 = 0 := by rw [h5]; exact nz_k h hx
  exact ⟨σ, by simp only [fX6_qTest_2, if_neg n01, if_neg n5, t110_5 n5], h5, h6, F⟩
theorem reTG {x y : Nat} {σ : MS} (h5 : σ.1 5 = nI x) (h6 : σ.1 6 = nI y) (hx : x < 100) (F : FQ σ0 σ) (hn : 1 ≤ n) : RET σ0 B L m (fX6_qTest_105 (fun σ' b1 => fX6_qTest_2 n σ' b1) σ) (.inl (x, y)) := fun h => by
  obtain ⟨n, rfl⟩ : ∃ k, n = k + 1 := ⟨n - 1, by omega⟩
  have n5 : ¬ σ.1 5 = 0 := by rw [h5]; exact nz_k h hx
  exact ⟨σ, by simp only [fX6_qTest_105, fX6_qTest_106, fX6_qTest_2, if_true, t110_5 n5], h5, h6, F⟩
theorem testA (hm : m < 4) (hN : IHTA σ0 B L m N) (hG : IHTG σ0 B L m N) : IHTA σ0 B L m (N + 1) := by
  intro p S O d σ n T hw hc hb hn
  obtain ⟨n, rfl⟩ : ∃ k, n = k + 1 := ⟨n - 1, by omega⟩
  have hbd := T.bd
  have FUe : FU = 100000 := rfl
  have lk := T.1.1.look
  have T1 := T.blk
  have qg := @sk_ge p L B
  have ce : (chI B L (sk B L p) = (91 : Int32)) = SI B L (sk B L p) 91 := ch_eq (c := 91) T.1.1.lt T.1.1.2.1 (by omega)
  have ss := @sk_sk p L B
  have ql := T1.1.1.2.2.1
  have h5 := T.2.1.1
  have tfk := tF_sk (B := B) (L := L) (m := m) (d := d) (O := O) T.1.1.2.2.1
  rw [tM]
  generalize sk B L p = q at *
  have e2 : (sI σ 2 (nI q)).1 2 = nI q := sI_s
  have i77 := isHere_q (k := 77) T1 ss (by unfold isW; omega)
  have wg := @we_ge q L B
  by_cases z : SI B L q 91
  · rw [if_pos z]
    have z1 := z.1
    have base : fX6_qTest_2 (n + 1) σ 1 = (fX6_qOpens (sI σ 2 (nI q)) (nI 25) (nI q)).bind fun x14 => fX6_qTest_2 n (sI x14 2 ((x14.1 2) + (1 : Int32))) 1 := by
      simp only [fX6_qTest_2, if_neg n01, h5, if_true, lk, bsm, ce, if_pos z, e2]
      rfl
    rw [base]
    rcases opens_o (o := 25) T1 (by omega) (by omega) (nI q) with ⟨d6, op⟩ | ⟨d6, σ2, op, T2⟩
    · unfold openP
      rw [if_pos d6, op, bsm]
      exact reT (by rw [sI_n (by omega), sI_n (by omega)]; exact sI_s) (by rw [sI_n (by omega)]; exact sI_s) (by omega) (((T1.fq.si (by omega)).si (by omega)).si (by omega)) (by omega)
    · unfold openP
      rw [if_neg d6, op, bsm]
      have T3 := T2.sg (by rw [ss]; exact z1) (by rw [ss]; exact noL (by omega) z)
      rw [ss] at T3
      have e22 : σ2.1 2 = nI q := T2.1.1.2.2.2.2
      rw [e22, nI_1]
      refine hN (q + 1) (25 :: S) O (d + 1) _ n T3 ?_ ?_ ?_ (by omega)
      · intro x hx
        rcases List.mem_cons.mp hx with h | h
        · omega
        · exact hw x h
      · rw [cq_c, if_pos (by omega)]
        omega
      · simp only [List.length_cons]
        omega
  rw [if_neg z]
  by_cases z1 : HW B L q (wdL 77)
  · rw [if_pos z1] at i77 ⊢
    have wgt := we_gt z1.1.1
    have base : fX6_qTest_2 (n + 1) σ 1 = (fX6_qOpens (sI σ 2 (nI q)) (nI 12) (nI q)).bind fun x12 => (fX6_asks x12 77).bind fun x13 => fX6_qTest_2 n x13 1 := by
      simp only [fX6_qTest_2, if_neg n01, h5, if_true, lk, bsm, ce, if_neg z, i77, e2]
      rfl
    rw [base]
    rcases opens_o (o := 12) T1 (by omega) (by omega) (nI q) with ⟨d6, op⟩ | ⟨d6, σ2, op, T2⟩
    · unfold openP
      rw [if_pos d6, op, bsm]
      have n5 : ¬ (sI (sI (sI σ 2 (nI q)) 5 4) 6 (nI q)).1 5 = 0 := by rw [sI_n (by omega), sI_s]; decide
      rw [asks_5 n5, bsm]
      exact reT (by rw [sI_n (by omega)]; exact sI_s) sI_s (by omega) ((T1.fq.si (by omega)).si (by omega)) (by omega)
    · unfold openP
      rw [if_neg d6, op, bsm]
      obtain ⟨σ3, a3, T3⟩ := asks_q (k := 77) T2 ss (by unfold isW; omega) z1
      rw [a3, bsm]
      refine hN (we B L q) (12 :: S) O (d + 1) _ n T3 ?_ ?_ ?_ (by omega)
      · intro x hx
        rcases List.mem_cons.mp hx with h | h
        · omega
        · exact hw x h
      · rw [cq_c, if_pos (by omega)]
        omega
      · simp only [List.length_cons]
        omega
  rw [if_neg z1] at i77 ⊢
  have base : fX6_qTest_2 (n + 1) σ 1 = (fX6_qFact (sI σ 2 (nI q))).bind fun x7 => (fX6_qDropsNots x7).bind fun x8 => if (x8.1 5) = 0 then (fX6_qGoesOnTest x8).bind (tG n) else fX6_qTest_105 (fun σ' b1 => fX6_qTest_2 n σ' b1) x8 := by
    simp only [fX6_qTest_2, if_neg n01, h5, if_true, lk, bsm, ce, if_neg z, i77]
    rfl
  rw [base]
  have F := factT hm T1 ss hw (by omega)
  rw [tfk] at F
  cases hf : tF B L m d p O with
  | inl e =>
    rw [hf] at F
    obtain ⟨σ2, f1, ⟨f2, f3, f4⟩, f5, f6⟩ := F
    have n5 : ¬ σ2.1 5 = 0 := by rw [f2]; exact nz_k f3 f4
    have dn : fX6_qDropsNots σ2 = some σ2 := by
      obtain ⟨fu, hf⟩ : ∃ fu, FU = fu + 1 := ⟨99999, rfl⟩
      unfold fX6_qDropsNots
      rw [hf]
      simp only [fX6_qDropsNots_0, if_neg n5]
    rw [f1, bsm, dn, bsm, if_neg n5]
    exact reTG (x := e.1) (y := e.2) f2 f5 f4 f6 (by omega)
  | inr e =>
    obtain ⟨p1, O1⟩ := e
    rw [hf] at F
    obtain ⟨σ2, f1, T2, f3, f4⟩ := F
    have hb2 := T2.bd
    obtain ⟨σ3, a3, T3⟩ := T2.nots hc
    obtain ⟨c1, c2, c3⟩ := en_c S O1 d hc hw
    rw [f1, bsm, a3, bsm, T3.2.1.1, if_pos rfl]
    exact hG p1 _ _ _ σ3 n FU T3 c2 c1 (by omega) (by omega) (by omega)
theorem testG (hN : IHTA σ0 B L m N) (hG : IHTG σ0 B L m N) : IHTG σ0 B L m (N + 1) := by
  intro p S O d σ n g T hw hc hb hn hg
  obtain ⟨g, rfl⟩ : ∃ k, g = k + 1 := ⟨g - 1, by omega⟩
  obtain ⟨n, rfl⟩ : ∃ k, n = k + 1 := ⟨n - 1, by omega⟩
  have hbd := T.bd
  have lk := T.1.1.look
  have T1 := T.blk
  have qg := @sk_ge p L B
  have ce : (chI B L (sk B L p) = (93 : Int32)) = SI B L (sk B L p) 93 := ch_eq (c := 93) T.1.1.lt T.1.1.2.1 (by omega)
  have ss := @sk_sk p L B
  have ql := T1.1.1.2.2.1
  have h5 := T.2.1.1
  rw [tM]
  generalize sk B L p = q at *
  have e2 : (sI σ 2 (nI q)).1 2 = nI q := sI_s
  have sq := T1.sq
  have wl := @we_le q L B ql
  by_cases z : SI B L q 93 ∧ 25 ∈ S
  · rw [if_pos z]
    have z1 := z.1.1
    rw [if_pos z.2] at sq
    have T2 := T1.sg (by rw [ss]; exact z1) (by rw [ss]; exact noL (by omega) z.1)
    rw [ss, sI_sI] at T2
    obtain ⟨σ3, S2, b1, T3, e3⟩ := sq33 (fun σ' => fX6_qGoesOnTest_0 g σ') S O _ FU (FU_lt (by omega)) z.2 T2
    obtain ⟨S2', b1', b2, b3⟩ := dw25 S O z.2
    have dl := dw_len (q := n25) S O
    rw [b1] at b1' dl
    cases b1'
    simp only [List.length_cons] at dl
    obtain ⟨n1, n2, n3, n4, n5, n6, n7⟩ := T3.top
    have t8 := T3.2.1.2.2.2.2.1
    have d6 := T3.2.2.2.2.2.2.1.1
    rw [cq_c, if_pos (by omega)] at b3
    have e1 : nI d - 1 = nI (d - 1) := nI_m1 (by omega)
    have T4 := (T3.pop).dep (d' := d - 1) (by omega)
    have x95 : (sI σ3 94 (nI (0 + S2.length))).1 95 = nI d := by rw [sI_n (by omega)]; exact t8
    obtain ⟨σ5, a5, T5⟩ := T4.nots (by omega)
    obtain ⟨c1, c2, c3⟩ := en_c S2 (dw n25 S O).2 (d - 1) (by omega) (b2 hw)
    have st : fX6_qGoesOnTest_0 (g + 1) σ = fX6_qGoesOnTest_0 g σ5 := by
      have a5' : fX6_qDropsNots (sI (sI σ3 94 (nI (0 + S2.length))) 95 (nI (d - 1))) = some σ5 := a5
      simp only [fX6_qGoesOnTest_0, h5, if_true, lk, bsm, ce, if_pos z.1, sq, if_neg n01, e2, nI_1, sI_sI]
      rw [e3, n1, n3, x95, e1, a5', bsm]
    rw [st, b1]
    show RET σ0 B L m ((fX6_qGoesOnTest_0 g σ5).bind (tG (n + 1))) (tM B L m N false (q + 1) (en S2 (dw n25 S O).2 (d - 1)).1 (en S2 (dw n25 S O).2 (d - 1)).2.1 (en S2 (dw n25 S O).2 (d - 1)).2.2)
    exact hG (q + 1) _ _ _ σ5 (n + 1) g T5 c2 c1 (by omega) (by omega) (by omega)
  rw [if_neg z]
  have st : fX6_qGoesOnTest_0 (g + 1) σ = fX6_qGoesOnTest_76 (sI σ 2 (nI q)) := by
    simp only [fX6_qGoesOnTest_0, h5, if_true, lk, bsm, ce, sq]
    by_cases y : SI B L q 93
    · rw [if_pos y, if_neg (fun x => z ⟨y, x⟩), if_pos rfl]
    · rw [if_neg y]
  rw [st]
  obtain ⟨σ2, k1, T2⟩ := takes_q (k := 78) T1 ss (by unfold isW; omega)
  by_cases z1 : HW B L q (wdL 78)
  · rw [if_pos z1] at k1 T2 ⊢
    have wgt := we_gt z1.1.1
    obtain ⟨σ3, a3, T3⟩ := w87 S O σ2 FU (FU_lt (by omega)) (by omega) T2
    have dl := dw_len (q := e10) S O
    have st2 : fX6_qGoesOnTest_76 (sI σ 2 (nI q)) = some (σ3, 1) := by
      simp only [fX6_qGoesOnTest_76, k1, bsm, if_neg n01, a3]
    rw [st2, bsm]
    unfold tG
    rw [if_neg n01]
    unfold fX6_qTest_106
    refine hN (we B L q) _ _ d σ3 (n + 1) T3 ?_ ?_ (by simp only [List.length_cons]; omega) (by omega)
    · intro x hx
      rcases List.mem_cons.mp hx with h | h
      · omega
      · exact hw x (dw_mem S O x h)
    · rw [cq_c, if_neg (by omega)]
      have := cq_dw (q := e10) S O
      omega
  rw [if_neg z1] at k1 T2 ⊢
  obtain ⟨σ3, k2, T3⟩ := takes_q (k := 79) T2 ss (by unfold isW; omega)
  by_cases z2 : HW B L q (wdL 79)
  · rw [if_pos z2] at k2 T3 ⊢
    have wgt := we_gt z2.1.1
    obtain ⟨σ4, a4, T4⟩ := w137 S O σ3 FU (FU_lt (by omega)) (by omega) T3
    have dl := dw_len (q := e1011) S O
    have st2 : fX6_qGoesOnTest_76 (sI σ 2 (nI q)) = some (σ4, 1) := by
      simp only [fX6_qGoesOnTest_76, k1, k2, bsm, if_true, if_neg n01, a4]
    rw [st2, bsm]
    unfold tG
    rw [if_neg n01]
    unfold fX6_qTest_106
    refine hN (we B L q) _ _ d σ4 (n + 1) T4 ?_ ?_ (by simp only [List.length_cons]; omega) (by omega)
    · intro x hx
      rcases List.mem_cons.mp hx with h | h
      · omega
      · exact hw x (dw_mem S O x h)
    · rw [cq_c, if_neg (by omega)]
      have := cq_dw (q := e1011) S O
      omega
  rw [if_neg z2] at k2 T3 ⊢
  have sq3 := T3.sq
  have h53 := T3.2.1.1
  have e23 := T3.1.1.2.2.2.2
  by_cases z3 : 25 ∈ S
  · rw [if_pos z3] at sq3 ⊢
    have st2 : fX6_qGoesOnTest_76 (sI σ 2 (nI q)) = some (sI (sI σ3 5 1) 6 (nI q), 0) := by
      simp only [fX6_qGoesOnTest_76, k1, k2, bsm, if_true, h53, sq3, if_neg n01, fail_o h53, e23]
    rw [st2, bsm]
    unfold tG
    rw [if_pos rfl]
    exact reTG (by rw [sI_n (by omega)]; exact sI_s) sI_s (by omega) ((T3.fq.si (by omega)).si (by omega)) (by omega)
  · rw [if_neg z3] at sq3 ⊢
    have st2 : fX6_qGoesOnTest_76 (sI σ 2 (nI q)) = some (σ3, 0) := by
      simp only [fX6_qGoesOnTest_76, k1, k2, bsm, if_true, h53, sq3]
    rw [st2, bsm]
    unfold tG
    rw [if_pos rfl]
    obtain ⟨σ4, a4, T4⟩ := t110 S O σ3 FU (FU_lt (by omega)) T3
    refine ⟨σ4, d, ?_, T4⟩
    simp only [fX6_qTest_105, fX6_qTest_106, fX6_qTest_2, if_true, a4]
theorem testsN (hm : m < 4) : ∀ N, IHTA σ0 B L m N ∧ IHTG σ0 B L m N := by
  intro N
  induction N with
  | zero => exact ⟨fun p S O d σ n T _ _ _ _ h => absurd rfl h, fun p S O d σ n g T _ _ _ _ _ h => absurd rfl h⟩
  | succ N ih => exact ⟨testA hm ih.1 ih.2, testG ih.1 ih.2⟩
/-- the twin's tests -/
theorem qTest_o (hm : m < 4) (T : TQ σ0 B L m 0 σ p [] O 0) (hb : O.length ≤ p) : RET σ0 B L m (fX6_qTest σ) (yA B L m p [] O 0) := by
  have hbd := T.bd
  have FUe : FU = 100000 := rfl
  exact (testsN (σ0 := σ0) (B := B) (L := L) hm (2 * (L - p) + 2)).1 p [] O 0 σ FU T (fun o ho => by cases ho) (Nat.le_refl _) (by simp only [List.length_nil]; omega) (by omega)
end PTE

/-! PARSER, the twin's small loops of sums; its words -/
set_option maxRecDepth 100000
section PCP
variable {B : Nat → Nat} {L m b p q p1 d k c o n j v fu : Nat} {S S' O O' cs : List Nat} {σ0 σ σ' : MS} {x : Int32}
theorem cq_c : cq (o :: S) = (if 12 ≤ o then 1 else 0) + cq S := rfl
theorem cq_ep : ∀ (S O : List Nat) (d : Nat), cq S ≤ d → cq (ep S O d).1 ≤ (ep S O d).2.2
  | [], O, d, h => h
  | o :: S, O, d, h => by
    rw [ep]
    by_cases z : 60 ≤ o
    · rw [if_pos z]
      rw [cq_c, if_pos (by omega)] at h
      exact cq_ep S _ (d - 1) (by omega)
    · rw [if_neg z]
      exact h
theorem cq_dw {q : Nat → Prop} [DecidablePred q] : ∀ (S O : List Nat), cq (dw q S O).1 ≤ cq S
  | [], O => Nat.le_refl _
  | o :: S, O => by
    rw [dw]
    by_cases z : q o
    · rw [if_pos z, cq_c]
      have := cq_dw (q := q) S (O ++ [o])
      omega
    · rw [if_neg z]
      exact Nat.le_refl _
theorem dw_len {q : Nat → Prop} [DecidablePred q] : ∀ (S O : List Nat), (dw q S O).1.length + (dw q S O).2.length = S.length + O.length
  | [], O => rfl
  | o :: S, O => by
    rw [dw]
    by_cases z : q o
    · rw [if_pos z, dw_len S (O ++ [o])]
      simp only [List.length_append, List.length_cons, List.length_nil]
      omega
    · rw [if_neg z]
theorem ep_d : ∀ (S O : List Nat) (d : Nat), (ep S O d).2.2 ≤ d
  | [], O, d => Nat.le_refl d
  | o :: S, O, d => by
    rw [ep]
    by_cases h : 60 ≤ o
    · rw [if_pos h]
      have := ep_d S (O ++ [o]) (d - 1)
      omega
    · rw [if_neg h]
      exact Nat.le_refl d
/-- how many are open -/
theorem TQ.dep {d' : Nat} (T : TQ σ0 B L m b σ p S O d) (h : d' ≤ 6) : TQ σ0 B L m b (sI σ 95 (nI d')) p S O d' := by
  obtain ⟨⟨t1, t2, t3⟩, ⟨t4, t5, t6, t7, t8, t9⟩, t10, t11, t12, t13, t14, t15, t16, t17⟩ := T
  exact ⟨⟨t1.to rfl (sI_n (by omega)) (sI_n (by omega)), t2.to (sI_n (by omega)), t3.fr (fun _ _ _ => rfl)⟩, ⟨by rw [sI_n (by omega)]; exact t4, by rw [sI_n (by omega)]; exact t5, by rw [sI_n (by omega)]; exact t6, by rw [sI_n (by omega)]; exact t7, sI_s, by rw [sI_n (by omega)]; exact t9⟩, t10, t11, t12, t13.si (by omega), ⟨h, t14.2⟩, t15, t16, t17⟩
/-- the top is taken away -/
theorem TQ.pop (T : TQ σ0 B L m b σ p (o :: S) O d) : TQ σ0 B L m b (sI σ 94 (nI (b + S.length))) p S O d := by
  obtain ⟨⟨t1, t2, t3⟩, ⟨t4, t5, t6, t7, t8, t9⟩, ⟨t10, t10'⟩, t11, t12, t13, t14, t15, t16, t17⟩ := T
  have hl : (o :: S).length = S.length + 1 := rfl
  rw [hl] at t16
  exact ⟨⟨t1.to rfl (sI_n (by omega)) (sI_n (by omega)), t2.to (sI_n (by omega)), t3.fr (fun _ _ _ => rfl)⟩, ⟨by rw [sI_n (by omega)]; exact t4, by rw [sI_n (by omega)]; exact t5, by rw [sI_n (by omega)]; exact t6, sI_s, by rw [sI_n (by omega)]; exact t8, by rw [sI_n (by omega)]; exact t9⟩, t10', t11, t12, t13.si (by omega), t14, t15, by omega, fun x hx => t17 x (List.mem_cons_of_mem _ hx)⟩
/-- what is on top -/
theorem TQ.top (T : TQ σ0 B L m b σ p (o :: S) O d) : σ.1 94 = nI (b + (S.length + 1)) ∧ σ.1 96 = nI b ∧ nI (b + (S.length + 1)) - 1 = nI (b + S.length) ∧ aI σ 93 (nI (b + S.length)) = some (nI o) ∧ o < 100 ∧ ¬ nI (b + (S.length + 1)) ≤ nI b ∧ (σ.1 5 = 0) := by
  have hb := T.bd
  obtain ⟨⟨t1, t2, t3⟩, ⟨t4, t5, t6, t7, t8, t9⟩, ⟨t10, t10'⟩, t11, t12, t13, t14, t15, t16, t17⟩ := T
  have hl : (o :: S).length = S.length + 1 := rfl
  rw [hl] at t7 hb
  refine ⟨t7, t6, by rw [nI_m1 (by omega)]; exact congrArg nI (by omega), by rw [tg93 (by omega)]; exact congrArg some t10, t17 o List.mem_cons_self, ?_, t4⟩
  rw [nI_leE (by omega) (by omega)]
  omega
theorem TQ.nil (T : TQ σ0 B L m b σ p [] O d) : σ.1 94 = nI b ∧ σ.1 96 = nI b ∧ nI b ≤ nI b ∧ σ.1 5 = 0 := by
  have hb := T.bd
  obtain ⟨⟨t1, t2, t3⟩, ⟨t4, t5, t6, t7, t8, t9⟩, -⟩ := T
  exact ⟨t7, t6, by rw [nI_leE (by omega) (by omega)]; exact Nat.le_refl _, t4⟩
/-- a part has ended -/
theorem ends_o : ∀ (S O : List Nat) (d : Nat) (σ : MS) (fu : Nat), S.length < fu → cq S ≤ d → TQ σ0 B L m b σ p S O d → ∃ σ', fX6_qEndsPart_0 fu σ = some σ' ∧ TQ σ0 B L m b σ' p (ep S O d).1 (ep S O d).2.1 (ep S O d).2.2
  | [], O, d, σ, fu, hf, hc, T => by
    obtain ⟨fu, rfl⟩ : ∃ n, fu = n + 1 := ⟨fu - 1, by omega⟩
    obtain ⟨n1, n2, n3, n4⟩ := T.nil
    exact ⟨σ, by simp only [fX6_qEndsPart_0, n4, if_true, n1, n2, if_pos n3], T⟩
  | o :: S, O, d, σ, fu, hf, hc, T => by
    simp only [List.length_cons] at hf
    obtain ⟨fu, rfl⟩ : ∃ n, fu = n + 1 := ⟨fu - 1, by omega⟩
    obtain ⟨n1, n2, n3, n4, n5, n6, n7⟩ := T.top
    have d6 := T.2.2.2.2.2.2.1
    have t8 := T.2.1.2.2.2.2.1
    have k1 : (nI o < (60 : Int32)) = (o < 60) := nI_ltE (b := 60) (by omega) (by omega)
    rw [ep]
    by_cases z : 60 ≤ o
    · rw [if_pos z]
      rw [cq_c, if_pos (by omega)] at hc
      have e1 : nI d - 1 = nI (d - 1) := nI_m1 (by omega)
      obtain ⟨σ1, a1, T1⟩ := (T.dep (d' := d - 1) (by omega)).drop
      obtain ⟨σ', a2, T2⟩ := ends_o S (O ++ [o]) (d - 1) σ1 fu (by omega) (by omega) T1
      refine ⟨σ', ?_, T2⟩
      simp only [fX6_qEndsPart_0, n7, if_true, n1, n2, if_neg n6, n3, n4, bsm, k1, if_neg (show ¬ o < 60 by omega), t8, e1, a1, a2]
    · rw [if_neg z]
      refine ⟨σ, ?_, T⟩
      simp only [fX6_qEndsPart_0, n7, if_true, n1, n2, if_neg n6, n3, n4, bsm, k1, if_pos (show o < 60 by omega)]
theorem TQ.ends (T : TQ σ0 B L m b σ p S O d) (hc : cq S ≤ d) : ∃ σ', fX6_qEndsPart σ = some σ' ∧ TQ σ0 B L m b σ' p (ep S O d).1 (ep S O d).2.1 (ep S O d).2.2 := by
  have hb := T.bd
  exact ends_o S O d σ FU (FU_lt (by omega)) hc T
theorem isb_o (ho : o < 100) : fX6_qIsBracket σ (nI o) = some (if isBr o then 1 else 0) := by
  have k1 : (nI o < (20 : Int32)) = (o < 20) := nI_ltE (b := 20) (by omega) (by omega)
  have k2 : ((24 : Int32) < nI o) = (24 < o) := nI_ltE (a := 24) (by omega) (by omega)
  simp only [fX6_qIsBracket, k1, k2]
  by_cases z : o < 20
  · rw [if_pos z, if_neg (by omega)]
  · rw [if_neg z]
    by_cases z2 : 24 < o
    · rw [if_pos z2, if_neg (by omega)]
    · rw [if_neg z2, if_pos (by omega)]
/-- down to a bracket -/
theorem tob_o : ∀ (S O : List Nat) (σ : MS) (fu : Nat), S.length < fu → TQ σ0 B L m b σ p S O d → ∃ σ', fX6_qDropsToBracket_0 fu σ = some σ' ∧ TQ σ0 B L m b σ' p (dw nBr S O).1 (dw nBr S O).2 d
  | [], O, σ, fu, hf, T => by
    obtain ⟨fu, rfl⟩ : ∃ n, fu = n + 1 := ⟨fu - 1, by omega⟩
    obtain ⟨n1, n2, n3, n4⟩ := T.nil
    exact ⟨σ, by simp only [fX6_qDropsToBracket_0, n1, n2, if_pos n3], T⟩
  | o :: S, O, σ, fu, hf, T => by
    simp only [List.length_cons] at hf
    obtain ⟨fu, rfl⟩ : ∃ n, fu = n + 1 := ⟨fu - 1, by omega⟩
    obtain ⟨n1, n2, n3, n4, n5, n6, n7⟩ := T.top
    have ib := isb_o (σ := σ) n5
    rw [dw]
    by_cases z : isBr o
    · rw [if_neg (fun y => y z)]
      rw [if_pos z] at ib
      refine ⟨σ, ?_, T⟩
      simp only [fX6_qDropsToBracket_0, n1, n2, if_neg n6, n3, n4, bsm, ib, if_neg n01]
    · rw [if_pos z]
      rw [if_neg z] at ib
      obtain ⟨σ1, a1, T1⟩ := T.drop
      obtain ⟨σ', a2, T2⟩ := tob_o S (O ++ [o]) σ1 fu (by omega) T1
      refine ⟨σ', ?_, T2⟩
      simp only [fX6_qDropsToBracket_0, n1, n2, if_neg n6, n3, n4, bsm, ib, if_true, a1, a2]
theorem TQ.tob (T : TQ σ0 B L m b σ p S O d) : ∃ σ', fX6_qDropsToBracket σ = some σ' ∧ TQ σ0 B L m b σ' p (dw nBr S O).1 (dw nBr S O).2 d := by
  have hb := T.bd
  exact tob_o S O σ FU (FU_lt (by omega)) T
theorem on_e (T : TQ σ0 B L m b σ p [] O d) (hc : c < 10) : fX6_qIsOn σ (nI c) = some 0 := by
  rw [T.on (Or.inl hc) (by omega), if_neg (fun q => q.1 rfl)]
theorem on_c (T : TQ σ0 B L m b σ p (o :: S) O d) (hc : c < 100) : fX6_qIsOn σ (nI c) = some (if o = c then 1 else 0) := by
  rw [T.on (Or.inr (List.cons_ne_nil _ _)) hc]
  by_cases z : o = c
  · rw [if_pos ⟨List.cons_ne_nil _ _, z⟩, if_pos z]
  · rw [if_neg (fun q => z q.2), if_neg z]
/-- a sign * or / comes to wait -/
theorem w162 (hv : v = 3 ∨ v = 4) : ∀ (S O : List Nat) (σ : MS) (fu : Nat), S.length < fu → O.length + b + S.length + 1 ≤ p + 2 → TQ σ0 B L m b σ p S O d → ∃ σ', fX6_qGoesOn_162 fu σ (nI v) = some (σ', 1) ∧ TQ σ0 B L m b σ' p (v :: (dw q34 S O).1) (dw q34 S O).2 d
  | [], O, σ, fu, hf, hb, T => by
    obtain ⟨fu, rfl⟩ : ∃ n, fu = n + 1 := ⟨fu - 1, by omega⟩
    obtain ⟨σ1, a1, a2, T1⟩ := T.push (o := v) hb (by omega)
    refine ⟨_, ?_, T1⟩
    have o3 := on_e (c := 3) T (by omega)
    have o4 := on_e (c := 4) T (by omega)
    rw [show nI 3 = (3 : Int32) from rfl] at o3
    rw [show nI 4 = (4 : Int32) from rfl] at o4
    simp only [fX6_qGoesOn_162, o3, bsm, if_true, o4, a1, a2, nI_1]
  | o :: S, O, σ, fu, hf, hb, T => by
    simp only [List.length_cons] at hf hb
    obtain ⟨fu, rfl⟩ : ∃ n, fu = n + 1 := ⟨fu - 1, by omega⟩
    have o3 := on_c (c := 3) T (by omega)
    have o4 := on_c (c := 4) T (by omega)
    rw [show nI 3 = (3 : Int32) from rfl] at o3
    rw [show nI 4 = (4 : Int32) from rfl] at o4
    rw [dw]
    by_cases z : q34 o
    · rw [if_pos z]
      obtain ⟨σ1, a1, T1⟩ := T.drop
      obtain ⟨σ', a2, T2⟩ := w162 hv S (O ++ [o]) σ1 fu (by omega) (by simp only [List.length_append, List.length_cons, List.length_nil]; omega) T1
      refine ⟨σ', ?_, T2⟩
      rcases z with z | z
      · rw [if_pos z] at o3
        simp only [fX6_qGoesOn_162, o3, bsm, if_neg n01, fX6_qGoesOn_178, a1, a2]
      · rw [if_neg (by omega)] at o3
        rw [if_pos z] at o4
        simp only [fX6_qGoesOn_162, o3, bsm, if_true, o4, if_neg n01, fX6_qGoesOn_178, a1, a2]
    · rw [if_neg z]
      rw [if_neg (fun y => z (Or.inl y))] at o3
      rw [if_neg (fun y => z (Or.inr y))] at o4
      obtain ⟨σ1, a1, a2, T1⟩ := T.push (o := v) (by simp only [List.length_cons]; omega) (by omega)
      refine ⟨_, ?_, T1⟩
      simp only [fX6_qGoesOn_162, o3, bsm, if_true, o4, a1, a2, nI_1]
/-- + or - -/
theorem w247 (hv : v = 1 ∨ v = 2) : ∀ (S O : List Nat) (σ : MS) (fu : Nat), S.length < fu → O.length + b + S.length + 1 ≤ p + 2 → TQ σ0 B L m b σ p S O d → ∃ σ', fX6_qGoesOn_247 fu σ (nI v) = some (σ', 1) ∧ TQ σ0 B L m b σ' p (v :: (dw q14 S O).1) (dw q14 S O).2 d
  | [], O, σ, fu, hf, hb, T => by
    obtain ⟨fu, rfl⟩ : ∃ n, fu = n + 1 := ⟨fu - 1, by omega⟩
    obtain ⟨σ1, a1, a2, T1⟩ := T.push (o := v) hb (by omega)
    refine ⟨_, ?_, T1⟩
    have o3 := on_e (c := 3) T (by omega)
    have o4 := on_e (c := 4) T (by omega)
    have o1 := on_e (c := 1) T (by omega)
    have o2 := on_e (c := 2) T (by omega)
    rw [show nI 3 = (3 : Int32) from rfl] at o3
    rw [show nI 4 = (4 : Int32) from rfl] at o4
    rw [show nI 1 = (1 : Int32) from rfl] at o1
    rw [show nI 2 = (2 : Int32) from rfl] at o2
    simp only [fX6_qGoesOn_247, o3, bsm, if_true, o4, o1, o2, a1, a2, nI_1]
  | o :: S, O, σ, fu, hf, hb, T => by
    simp only [List.length_cons] at hf hb
    obtain ⟨fu, rfl⟩ : ∃ n, fu = n + 1 := ⟨fu - 1, by omega⟩
    have o3 := on_c (c := 3) T (by omega)
    have o4 := on_c (c := 4) T (by omega)
    have o1 := on_c (c := 1) T (by omega)
    have o2 := on_c (c := 2) T (by omega)
    rw [show nI 3 = (3 : Int32) from rfl] at o3
    rw [show nI 4 = (4 : Int32) from rfl] at o4
    rw [show nI 1 = (1 : Int32) from rfl] at o1
    rw [show nI 2 = (2 : Int32) from rfl] at o2
    rw [dw]
    by_cases z : q14 o
    · rw [if_pos z]
      obtain ⟨σ1, a1, T1⟩ := T.drop
      obtain ⟨σ', a2, T2⟩ := w247 hv S (O ++ [o]) σ1 fu (by omega) (by simp only [List.length_append, List.length_cons, List.length_nil]; omega) T1
      refine ⟨σ', ?_, T2⟩
      rcases z with z | z | z | z
      · rw [if_pos z] at o3
        simp only [fX6_qGoesOn_247, o3, bsm, if_neg n01, fX6_qGoesOn_279, a1, a2]
      · rw [if_neg (by omega)] at o3
        rw [if_pos z] at o4
        simp only [fX6_qGoesOn_247, o3, bsm, if_true, o4, if_neg n01, fX6_qGoesOn_279, a1, a2]
      · rw [if_neg (by omega)] at o3 o4
        rw [if_pos z] at o1
        simp only [fX6_qGoesOn_247, o3, bsm, if_true, o4, o1, if_neg n01, fX6_qGoesOn_279, a1, a2]
      · rw [if_neg (by omega)] at o3 o4 o1
        rw [if_pos z] at o2
        simp only [fX6_qGoesOn_247, o3, bsm, if_true, o4, o1, o2, if_neg n01, fX6_qGoesOn_279, a1, a2]
    · rw [if_neg z]
      rw [if_neg (by unfold q14 at z; omega)] at o3 o4 o1 o2
      obtain ⟨σ1, a1, a2, T1⟩ := T.push (o := v) (by simp only [List.length_cons]; omega) (by omega)
      refine ⟨_, ?_, T1⟩
      simp only [fX6_qGoesOn_247, o3, bsm, if_true, o4, o1, o2, a1, a2, nI_1]
/-- all that waits is told -/
theorem sums53 (x : Int32) : ∀ (S O : List Nat) (σ : MS) (fu : Nat), S.length < fu → TQ σ0 B L m b σ p S O d → ∃ σ', fX6_qSums_53 fu σ x = some (sI σ' 96 x) ∧ TQ σ0 B L m b σ' p [] (O ++ S) d
  | [], O, σ, fu, hf, T => by
    obtain ⟨fu, rfl⟩ : ∃ n, fu = n + 1 := ⟨fu - 1, by omega⟩
    obtain ⟨n1, n2, n3, n4⟩ := T.nil
    exact ⟨σ, by simp only [fX6_qSums_53, n4, if_true, n1, n2, if_pos n3, fX6_qSums_78], by rw [List.append_nil]; exact T⟩
  | o :: S, O, σ, fu, hf, T => by
    simp only [List.length_cons] at hf
    obtain ⟨fu, rfl⟩ : ∃ n, fu = n + 1 := ⟨fu - 1, by omega⟩
    obtain ⟨n1, n2, n3, n4, n5, n6, n7⟩ := T.top
    obtain ⟨σ1, a1, T1⟩ := T.drop
    obtain ⟨σ', a2, T2⟩ := sums53 x S (O ++ [o]) σ1 fu (by omega) T1
    rw [List.append_assoc] at T2
    refine ⟨σ', ?_, T2⟩
    simp only [fX6_qSums_53, n7, if_true, n1, n2, if_neg n6, bsm, a1, a2]
-- words
theorem isAl (hm : m < 4) (hj : j < 9) (h : σ.1 53 = nI m) : fX6_isAllowed σ (nI j) = some (if alw m j then 1 else 0) := by
  have h1 : m = 0 ∨ m = 1 ∨ m = 2 ∨ m = 3 := by omega
  have h2 : j = 0 ∨ j = 1 ∨ j = 2 ∨ j = 3 ∨ j = 4 ∨ j = 5 ∨ j = 6 ∨ j = 7 ∨ j = 8 := by omega
  unfold fX6_isAllowed
  rw [h]
  rcases h1 with rfl | rfl | rfl | rfl <;> rcases h2 with rfl | rfl | rfl | rfl | rfl | rfl | rfl | rfl | rfl <;> rfl
/-- which word stands here -/
def whN (B : Nat → Nat) (L m q : Nat) : Option Nat := if LEa B L q ∧ ¬ PT B q then (match fd B q (we B L q) askL with
  | some j => some (if j = 2 ∧ m = 3 then 8 else j)
  | none => none) else none
theorem isHere_q (T : TQ σ0 B L m b σ q S O d) (hq : sk B L q = q) (hw : isW k) : fX6_isHere σ k = some (σ, if HW B L q (wdL k) then 1 else 0) := by
  obtain ⟨⟨t1, t2, t3⟩, ⟨t4, -⟩, -⟩ := T
  have := isHere_o t1 t2 t3 hw t4
  rw [hq, sI_id t1.2.2.2.2] at this
  exact this
theorem fd8 (q e : Nat) : fd B q e askL = if WQ B q e (wdL 83) then some 0 else if WQ B q e (wdL 84) then some 1 else if WQ B q e (wdL 85) then some 2 else if WQ B q e (wdL 86) then some 3 else if WQ B q e (wdL 87) then some 4 else if WQ B q e (wdL 88) then some 5 else if WQ B q e (wdL 89) then some 6 else if WQ B q e (wdL 90) then some 7 else none := rfl
theorem wordHere_q (hm : m < 4) (T : TQ σ0 B L m b σ q S O d) (hq : sk B L q = q) : fX6_qWordHere σ = some (σ, oI (whN B L m q)) := by
  have t5 := T.2.1.2.1
  have i83 := isHere_q (k := 83) T hq (by unfold isW; omega)
  have i84 := isHere_q (k := 84) T hq (by unfold isW; omega)
  have i85 := isHere_q (k := 85) T hq (by unfold isW; omega)
  have i86 := isHere_q (k := 86) T hq (by unfold isW; omega)
  have i87 := isHere_q (k := 87) T hq (by unfold isW; omega)
  have i88 := isHere_q (k := 88) T hq (by unfold isW; omega)
  have i89 := isHere_q (k := 89) T hq (by unfold isW; omega)
  have i90 := isHere_q (k := 90) T hq (by unfold isW; omega)
  have k3 : (σ.1 53 = (3 : Int32)) = (m = 3) := by rw [t5]; exact nI_eqE (b := 3) (by omega) (by omega)
  unfold whN
  by_cases g : LEa B L q ∧ ¬ PT B q
  rotate_left
  · rw [if_neg g]
    have nh : ∀ w, ¬ HW B L q w := fun w y => g y.1
    rw [if_neg (nh _)] at i83 i84 i85 i86 i87 i88 i89 i90
    simp only [fX6_qWordHere, i83, i84, i85, i86, i87, i88, i89, i90, bsm, if_true, oI]
  rw [if_pos g, fd8]
  have hw : ∀ w, HW B L q w ↔ WQ B q (we B L q) w := fun w => ⟨fun y => y.2, fun y => ⟨g, y⟩⟩
  simp only [hw] at i83 i84 i85 i86 i87 i88 i89 i90
  by_cases z : WQ B q (we B L q) (wdL 83)
  · rw [if_pos z] at i83 ⊢
    simp only [fX6_qWordHere, i83, bsm, if_neg n01]
    rfl
  rw [if_neg z] at i83 ⊢
  by_cases z : WQ B q (we B L q) (wdL 84)
  · rw [if_pos z] at i84 ⊢
    simp only [fX6_qWordHere, i83, i84, bsm, if_true, if_neg n01]
    rfl
  rw [if_neg z] at i84 ⊢
  by_cases z : WQ B q (we B L q) (wdL 85)
  · rw [if_pos z] at i85 ⊢
    simp only [fX6_qWordHere, i83, i84, i85, bsm, if_true, if_neg n01, k3]
    by_cases y : m = 3
    · rw [if_pos y]
      rw [if_pos ⟨trivial, y⟩]
      rfl
    · rw [if_neg y]
      rw [if_neg (fun x => y x.2)]
      rfl
  rw [if_neg z] at i85 ⊢
  by_cases z : WQ B q (we B L q) (wdL 86)
  · rw [if_pos z] at i86 ⊢
    simp only [fX6_qWordHere, i83, i84, i85, i86, bsm, if_true, if_neg n01]
    rfl
  rw [if_neg z] at i86 ⊢
  by_cases z : WQ B q (we B L q) (wdL 87)
  · rw [if_pos z] at i87 ⊢
    simp only [fX6_qWordHere, i83, i84, i85, i86, i87, bsm, if_true, if_neg n01]
    rfl
  rw [if_neg z] at i87 ⊢
  by_cases z : WQ B q (we B L q) (wdL 88)
  · rw [if_pos z] at i88 ⊢
    simp only [fX6_qWordHere, i83, i84, i85, i86, i87, i88, bsm, if_true, if_neg n01]
    rfl
  rw [if_neg z] at i88 ⊢
  by_cases z : WQ B q (we B L q) (wdL 89)
  · rw [if_pos z] at i89 ⊢
    simp only [fX6_qWordHere, i83, i84, i85, i86, i87, i88, i89, bsm, if_true, if_neg n01]
    rfl
  rw [if_neg z] at i89 ⊢
  by_cases z : WQ B q (we B L q) (wdL 90)
  · rw [if_pos z] at i90 ⊢
    simp only [fX6_qWordHere, i83, i84, i85, i86, i87, i88, i89, i90, bsm, if_true, if_neg n01]
    rfl
  rw [if_neg z] at i90 ⊢
  simp only [fX6_qWordHere, i83, i84, i85, i86, i87, i88, i89, i90, bsm, if_true, oI]
/-- a word with a part behind it -/
theorem wordOf8 (hm : m < 4) (T : TQ σ0 B L m b σ q S O d) (hq : sk B L q = q) : fX6_qWordOf σ (8 : Int32) (9 : Int32) = some (σ, if m = 3 ∧ HW B L q (wdL 85) then 8 else -1) := by
  have wh := wordHere_q hm T hq
  unfold whN at wh
  have no : ∀ j, j < 8 → fX6_qWordHere σ = some (σ, nI j) → fX6_qWordOf σ (8 : Int32) (9 : Int32) = some (σ, -1) := fun j hj e => by
    have k1 : (nI j < (8 : Int32)) = (j < 8) := nI_ltE (b := 8) (by omega) (by omega)
    simp only [fX6_qWordOf, e, bsm, k1, if_pos hj]
  by_cases g : LEa B L q ∧ ¬ PT B q
  rotate_left
  · rw [if_neg g] at wh
    rw [if_neg (fun y => g y.2.1)]
    have k1 : ((-1 : Int32) < 8) := by decide
    simp only [fX6_qWordOf, wh, bsm, oI, if_pos k1]
  rw [if_pos g] at wh
  cases hf : fd B q (we B L q) askL with
  | none =>
    rw [hf] at wh
    rw [if_neg (fun y => fd_n hf 2 (by decide) y.2.2)]
    have k1 : ((-1 : Int32) < 8) := by decide
    simp only [fX6_qWordOf, wh, bsm, oI, if_pos k1]
  | some j =>
    rw [hf] at wh
    have hj : j < 8 := (fd_s hf).1
    have h85 := fd_85 hf
    by_cases y : j = 2 ∧ m = 3
    · rw [if_pos ⟨y.2, g, h85.mpr y.1⟩]
      have wh' : fX6_qWordHere σ = some (σ, nI 8) := by
        rw [wh]
        show some (σ, oI (some (if j = 2 ∧ m = 3 then 8 else j))) = _
        rw [if_pos y]
        rfl
      have al := isAl (σ := σ) (j := 8) hm (by omega) T.2.1.2.1
      rw [if_pos (show alw m 8 from Or.inr (Or.inr (Or.inr ⟨by omega, by omega⟩)))] at al
      have k1 : ¬ nI 8 < (8 : Int32) := by decide
      have k2 : ¬ (9 : Int32) ≤ nI 8 := by decide
      simp only [fX6_qWordOf, wh', bsm, if_neg k1, if_neg k2, al, if_neg n01]
      rfl
    · rw [if_neg (fun x => y ⟨h85.mp x.2.2, x.1⟩)]
      refine no j hj ?_
      rw [wh]
      show some (σ, oI (some (if j = 2 ∧ m = 3 then 8 else j))) = _
      rw [if_neg y]
      rfl
/-- a part's word -/
theorem wordOf0 (hm : m < 4) (T : TQ σ0 B L m b σ q S O d) (hq : sk B L q = q) : fX6_qWordOf σ (0 : Int32) (8 : Int32) = some (σ, oI (wdA B L m q)) := by
  have wh := wordHere_q hm T hq
  unfold whN at wh
  unfold wdA
  rw [hq]
  by_cases g : LEa B L q ∧ ¬ PT B q
  rotate_left
  · rw [if_neg g] at wh
    rw [if_neg g]
    have k1 : ((-1 : Int32) < 0) := by decide
    simp only [fX6_qWordOf, wh, bsm, oI, if_pos k1]
  rw [if_pos g] at wh
  rw [if_pos g]
  cases hf : fd B q (we B L q) askL with
  | none =>
    rw [hf] at wh
    have k1 : ((-1 : Int32) < 0) := by decide
    simp only [fX6_qWordOf, wh, bsm, oI, if_pos k1]
  | some j =>
    rw [hf] at wh
    have hj : j < 8 := (fd_s hf).1
    by_cases y : j = 2 ∧ m = 3
    · have wh' : fX6_qWordHere σ = some (σ, nI 8) := by
        rw [wh]
        show some (σ, oI (some (if j = 2 ∧ m = 3 then 8 else j))) = _
        rw [if_pos y]
        rfl
      have k1 : ¬ nI 8 < (0 : Int32) := by decide
      have k2 : (8 : Int32) ≤ nI 8 := by decide
      show _ = some (σ, oI (if alw m j then some j else none))
      rw [if_neg (by rw [y.1, y.2]; decide)]
      simp only [fX6_qWordOf, wh', bsm, if_neg k1, if_pos k2, oI]
    · have wh' : fX6_qWordHere σ = some (σ, nI j) := by
        rw [wh]
        show some (σ, oI (some (if j = 2 ∧ m = 3 then 8 else j))) = _
        rw [if_neg y]
        rfl
      have al := isAl (σ := σ) (j := j) hm (by omega) T.2.1.2.1
      have k1 : (nI j < (0 : Int32)) = False := nI_lt0 (by omega)
      have k2 : ((8 : Int32) ≤ nI j) = (8 ≤ j) := nI_leE (a := 8) (by omega) (by omega)
      show _ = some (σ, oI (if alw m j then some j else none))
      by_cases ya : alw m j
      · rw [if_pos ya] at al ⊢
        simp only [fX6_qWordOf, wh', bsm, k1, if_false, k2, if_neg (show ¬ 8 ≤ j by omega), al, if_neg n01, oI]
      · rw [if_neg ya] at al ⊢
        simp only [fX6_qWordOf, wh', bsm, k1, if_false, k2, if_neg (show ¬ 8 ≤ j by omega), al, if_true, oI]
/-- the word is passed -/
theorem asks_q (T : TQ σ0 B L m b σ q S O d) (hq : sk B L q = q) (hw : isW k) (h : HW B L q (wdL k)) : ∃ σ', fX6_asks σ k = some σ' ∧ TQ σ0 B L m b σ' (we B L q) S O d := by
  have t := T
  obtain ⟨⟨t1, t2, t3⟩, ⟨t4, -⟩, -⟩ := t
  have a := asks_o t1 t2 t3 hw t4
  rw [hq, if_pos h] at a
  exact ⟨_, a, T.wd (by have := @we_ge q L B; omega) (we_le t1.2.2.1) (we_PT h.1.1)⟩
theorem takes_q (T : TQ σ0 B L m b σ q S O d) (hq : sk B L q = q) (hw : isW k) : ∃ σ', fX6_takes σ k = some (σ', if HW B L q (wdL k) then 1 else 0) ∧ TQ σ0 B L m b σ' (if HW B L q (wdL k) then we B L q else q) S O d := by
  have t := T
  obtain ⟨⟨t1, t2, t3⟩, ⟨t4, -⟩, -⟩ := t
  have a := takes_o t1 t2 t3 hw t4
  rw [hq] at a
  by_cases h : HW B L q (wdL k)
  · rw [if_pos h] at a
    rw [if_pos h, if_pos h]
    exact ⟨_, a, T.wd (by have := @we_ge q L B; omega) (we_le t1.2.2.1) (we_PT h.1.1)⟩
  · rw [if_neg h, sI_id t1.2.2.2.2] at a
    rw [if_neg h, if_neg h]
    exact ⟨_, a, T⟩
theorem asksWord_q {j : Nat} (T : TQ σ0 B L m b σ q S O d) (hq : sk B L q = q) (hj : j < 8) (h : HW B L q (wdL (83 + j))) : ∃ σ', fX6_qAsksWord σ (nI j) = some σ' ∧ TQ σ0 B L m b σ' (we B L q) S O d := by
  obtain ⟨σ', a, T'⟩ := asks_q T hq (k := 83 + j) (by unfold isW; omega) h
  refine ⟨σ', ?_, T'⟩
  have h2 : j = 0 ∨ j = 1 ∨ j = 2 ∨ j = 3 ∨ j = 4 ∨ j = 5 ∨ j = 6 ∨ j = 7 := by omega
  rcases h2 with rfl | rfl | rfl | rfl | rfl | rfl | rfl | rfl
  all_goals
    unfold fX6_qAsksWord
    first
    | rw [if_pos (by decide), a, bsm]
    | rw [if_neg (by decide), if_pos (by decide), a, bsm]
    | rw [if_neg (by decide), if_neg (by decide), if_pos (by decide), a, bsm]
    | rw [if_neg (by decide), if_neg (by decide), if_neg (by decide), if_pos (by decide), a, bsm]
    | rw [if_neg (by decide), if_neg (by decide), if_neg (by decide), if_neg (by decide), if_pos (by decide), a, bsm]
    | rw [if_neg (by decide), if_neg (by decide), if_neg (by decide), if_neg (by decide), if_neg (by decide), if_pos (by decide), a, bsm]
    | rw [if_neg (by decide), if_neg (by decide), if_neg (by decide), if_neg (by decide), if_neg (by decide), if_neg (by decide), if_pos (by decide), a, bsm]
    | rw [if_neg (by decide), if_neg (by decide), if_neg (by decide), if_neg (by decide), if_neg (by decide), if_neg (by decide), if_neg (by decide), if_pos (by decide), a, bsm]
theorem asksWord_8 (T : TQ σ0 B L m b σ q S O d) (hq : sk B L q = q) (h : HW B L q (wdL 85)) : ∃ σ', fX6_qAsksWord σ (8 : Int32) = some σ' ∧ TQ σ0 B L m b σ' (we B L q) S O d := by
  obtain ⟨σ', a, T'⟩ := asks_q T hq (k := 85) (by unfold isW; omega) h
  refine ⟨σ', ?_, T'⟩
  unfold fX6_qAsksWord
  rw [if_neg (by decide), if_neg (by decide), if_neg (by decide), if_neg (by decide), if_neg (by decide), if_neg (by decide), if_neg (by decide), if_neg (by decide), a, bsm]
end PCP

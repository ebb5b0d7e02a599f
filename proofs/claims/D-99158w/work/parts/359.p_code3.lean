/-! PARSER, the twin's sums are the machine's -/
set_option maxRecDepth 100000
/-- what waits is well made -/
def wf : List Nat → Prop
  | [] => True
  | o :: S => wf S ∧ (isBr o ∨ o = 60 ∨ o ≤ 4 ∧ hd S < 60)
def cG (n : Nat) (a1 : Int32) (x5 : MS × Int32) : Option MS := if x5.2 = 0 then fX6_qSums_48 (fun σ' b1 b2 => fX6_qSums_15 n σ' b1 b2) x5.1 a1 else fX6_qSums_49 (fun σ' b1 b2 => fX6_qSums_15 n σ' b1 b2) x5.1 a1 (1 : Int32)
def XA (n f : Nat) (a1 : Int32) (σ : MS) : Option MS := (fX6_qPartTold_2 f σ (1 : Int32)).bind fun x3 => if (x3.1 5) = 0 then (fX6_qGoesOn x3).bind (cG n a1) else fX6_qSums_48 (fun σ' b1 b2 => fX6_qSums_15 n σ' b1 b2) x3 a1
def XG (n g : Nat) (a1 : Int32) (σ : MS) : Option MS := (fX6_qGoesOn_0 g σ).bind (cG n a1)
/-- the twin has failed -/
def EQ (σ0 : MS) (a1 : Int32) (e : Nat × Nat) (σ : MS) : Prop := σ.1 5 = nI e.1 ∧ σ.1 6 = nI e.2 ∧ σ.1 96 = a1 ∧ FQ σ0 σ ∧ ∃ k, k < 1650 ∧ σ.1 92 = nI k
def RES (σ0 : MS) (B : Nat → Nat) (L m b d0 : Nat) (a1 : Int32) (r : Option MS) (mr : PRes) : Prop := match mr with
  | .inl e => e.1 ≠ 0 → ∃ σ', r = some σ' ∧ EQ σ0 a1 e σ'
  | .inr (p', O') => ∃ σ', r = some (sI σ' 96 a1) ∧ TQ σ0 B L m b σ' p' [] O' d0
section PCR
variable {B : Nat → Nat} {L m b p q p1 d d0 k c o n f g j v fu : Nat} {S S' O O' cs : List Nat} {σ0 σ σ' : MS} {x a1 : Int32} {e : Nat × Nat}
theorem wf_t (h : wf (o :: S)) : wf S := h.1
theorem wf_ep : ∀ (S O : List Nat) (d : Nat), wf S → d = d0 + cq S → wf (ep S O d).1 ∧ hd (ep S O d).1 < 60 ∧ (ep S O d).2.2 = d0 + cq (ep S O d).1 ∧ (ep S O d).1.length + (ep S O d).2.1.length = S.length + O.length
  | [], O, d, h, e => ⟨trivial, by show (0 : Nat) < 60; omega, e, rfl⟩
  | o :: S, O, d, h, e => by
    rw [ep]
    by_cases z : 60 ≤ o
    · rw [if_pos z]
      rw [cq_c, if_pos (by omega)] at e
      obtain ⟨h1, h2, h3, h4⟩ := wf_ep S (O ++ [o]) (d - 1) h.1 (by omega)
      refine ⟨h1, h2, h3, ?_⟩
      rw [h4]
      simp only [List.length_append, List.length_cons, List.length_nil]
      omega
    · rw [if_neg z]
      exact ⟨h, by show o < 60; omega, e, rfl⟩
/-- signs that wait are told: what is left is well made -/
theorem wf_dw {q : Nat → Prop} [DecidablePred q] (hq : ∀ o, isBr o → ¬ q o) : ∀ (S O : List Nat), wf S → hd S < 60 → wf (dw q S O).1 ∧ hd (dw q S O).1 < 60 ∧ cq (dw q S O).1 = cq S ∧ brS (dw q S O).1 = brS S
  | [], O, h, h2 => ⟨trivial, h2, rfl, rfl⟩
  | o :: S, O, h, h2 => by
    rw [dw]
    by_cases z : q o
    · rw [if_pos z]
      have h2 : o < 60 := h2
      have ho : o ≤ 4 ∧ hd S < 60 := by
        rcases h.2 with y | y | y
        · exact absurd z (hq o y)
        · omega
        · exact y
      obtain ⟨a1, a2, a3, a4⟩ := wf_dw hq S (O ++ [o]) h.1 ho.2
      refine ⟨a1, a2, ?_, ?_⟩
      · rw [a3, cq_c, if_neg (by omega)]
        omega
      · rw [a4, brS, if_neg (by omega)]
    · rw [if_neg z]
      exact ⟨h, h2, rfl, rfl⟩
/-- down to the bracket -/
theorem dw_br : ∀ (S O : List Nat), brS S ≠ 0 → ∃ S2, (dw nBr S O).1 = brS S :: S2 ∧ isBr (brS S)
  | [], O, h => absurd rfl h
  | o :: S, O, h => by
    rw [dw]
    by_cases z : isBr o
    · rw [if_neg (fun y => y z), brS_c z]
      exact ⟨S, rfl, z⟩
    · rw [if_pos z]
      have e : brS (o :: S) = brS S := by rw [brS, if_neg z]
      rw [e] at h ⊢
      exact dw_br S (O ++ [o]) h
theorem cq_0 : ∀ (S : List Nat), wf S → hd S < 60 → brS S = 0 → cq S = 0
  | [], _, _, _ => rfl
  | o :: S, h, h2, h3 => by
    have h2 : o < 60 := h2
    rcases h.2 with y | y | y
    · rw [brS_c y] at h3
      have := y.1
      omega
    · omega
    · rw [brS, if_neg (by omega)] at h3
      rw [cq_c, if_neg (by omega), cq_0 S h.1 y.2 h3]
theorem br_lt : ∀ (S : List Nat), brS S = 0 ∨ isBr (brS S)
  | [] => Or.inl rfl
  | o :: S => by
    by_cases z : isBr o
    · rw [brS_c z]
      exact Or.inr z
    · rw [brS, if_neg z]
      exact br_lt S
-- failing
theorem errS (h : ¬ σ.1 5 = 0) (hn : 1 ≤ n) : fX6_qSums_48 (fun σ' b1 b2 => fX6_qSums_15 n σ' b1 b2) σ a1 = some (sI σ 96 a1) := by
  obtain ⟨n, rfl⟩ : ∃ k, n = k + 1 := ⟨n - 1, by omega⟩
  have e53 : fX6_qSums_53 FU σ a1 = some (sI σ 96 a1) := by
    obtain ⟨fu, hf⟩ : ∃ fu, FU = fu + 1 := ⟨99999, rfl⟩
    rw [hf]
    simp only [fX6_qSums_53, if_neg h, fX6_qSums_78]
  simp only [fX6_qSums_48, fX6_qSums_49, fX6_qSums_15, if_true, e53]
theorem errP (h : ¬ σ.1 5 = 0) (hf : 1 ≤ f) (hn : 1 ≤ n) : XA n f a1 σ = some (sI σ 96 a1) := by
  obtain ⟨f, rfl⟩ : ∃ k, f = k + 1 := ⟨f - 1, by omega⟩
  unfold XA
  have : fX6_qPartTold_2 (f + 1) σ (1 : Int32) = some σ := by
    simp only [fX6_qPartTold_2, if_neg n01, if_neg h, fX6_qPartTold_186]
  rw [this, bsm, if_neg h]
  exact errS h hn
theorem errG (h : ¬ σ.1 5 = 0) (hn : 1 ≤ n) : cG n a1 (σ, 0) = some (sI σ 96 a1) := by
  unfold cG
  rw [if_pos rfl]
  exact errS h hn
theorem TQ.c92 (T : TQ σ0 B L m b σ p S O d) : ∃ k, k < 1650 ∧ σ.1 92 = nI k := ⟨O.length, by have := T.bd; omega, T.2.1.2.2.2.2.2⟩
theorem nz_k {x : Nat} (h : x ≠ 0) (h2 : x < 100) : ¬ nI x = 0 := by rw [nI_eq0 (by omega)]; exact h
/-- one more is open -/
theorem opens_o (T : TQ σ0 B L m b σ p S O d) (hb : O.length + b + S.length + 1 ≤ p + 2) (ho : o < 100) (x : Int32) : (d = 6 ∧ fX6_qOpens σ (nI o) x = some (sI (sI σ 5 4) 6 x)) ∨ (d ≠ 6 ∧ ∃ σ', fX6_qOpens σ (nI o) x = some σ' ∧ TQ σ0 B L m b σ' p (o :: S) O (d + 1)) := by
  have t4 := T.2.1.1
  have t8 := T.2.1.2.2.2.2.1
  have d6 := T.2.2.2.2.2.2.1
  have k6 : (nI d = (6 : Int32)) = (d = 6) := nI_eqE (b := 6) (by omega) (by omega)
  by_cases z : d = 6
  · refine Or.inl ⟨z, ?_⟩
    simp only [fX6_qOpens, t4, if_true, t8, k6, if_pos z, fail_o t4, bsm]
  · refine Or.inr ⟨z, ?_⟩
    have T1 := T.dep (d' := d + 1) (by omega)
    obtain ⟨σ1, a1, a2, T2⟩ := T1.push (o := o) hb ho
    refine ⟨_, ?_, T2⟩
    simp only [fX6_qOpens, t4, if_true, t8, k6, if_neg z, nI_1, a1, bsm, a2]
end PCR

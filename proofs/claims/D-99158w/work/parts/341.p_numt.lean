/-! PARSER, numbers at the twin -/
set_option maxRecDepth 100000
/-- the twin's reading: places and faults alone have changed -/
def TF5 (σ σ' : MS) : Prop := σ'.2 = σ.2 ∧ ∀ k, k ≠ 2 → k ≠ 4 → k ≠ 5 → k ≠ 6 → k ≠ 39 → σ'.1 k = σ.1 k
section PNT
variable {K : KE} {a i n k p q e L lo hi : Nat} {M M' : CM} {σ σ' σ1 σ2 : MS} {B : Nat → Nat}
theorem TF5.refl (σ : MS) : TF5 σ σ := ⟨rfl, fun _ _ _ _ _ _ => rfl⟩
theorem TF5.tr (h : TF5 σ σ1) (g : TF5 σ1 σ2) : TF5 σ σ2 := ⟨g.1.trans h.1, fun k a b c d e => (g.2 k a b c d e).trans (h.2 k a b c d e)⟩
theorem TF5.set (h : TF5 σ σ') (v : Int32) (hk : k = 2 ∨ k = 4 ∨ k = 5 ∨ k = 6 ∨ k = 39) : TF5 σ (sI σ' k v) := ⟨h.1, fun j a b c d e => by rw [sI_n (by omega)]; exact h.2 j a b c d e⟩
theorem numT (hq : q ≤ L) (hlo : lo ≤ 9999) (hhi : hi ≤ 9999) : ∀ (j r v fu : Nat) (σ : MS), r - q + j = 4 → q ≤ r → j + 1 < fu → v < 10 ^ (r - q) → TD σ B L r → σ.1 5 = 0 →
    match nuF B L q lo hi (j + 1) r v with
    | .inl (k, x) => ∃ σ' v', fX6_number_49 fu σ (nI lo) (nI hi) (nI q) (nI v) = some (σ', v') ∧ TF5 σ σ' ∧ σ'.1 5 = nI k ∧ σ'.1 6 = nI x ∧ (k = 1 ∨ k = 2)
    | .inr (r', v') => fX6_number_49 fu σ (nI lo) (nI hi) (nI q) (nI v) = some (sI (sI σ 2 (nI r')) 4 (nI r'), nI v') ∧ r ≤ r' := by
  have stop : ∀ (r v fu : Nat) (σ : MS), ¬ DIa B L r → v < 10000 → TD σ B L r → σ.1 5 = 0 →
      match (if lo ≤ v ∧ v ≤ hi then (.inr (r, v) : (Nat × Nat) ⊕ (Nat × Nat)) else .inl (2, q)) with
      | .inl (k, x) => ∃ σ' v', fX6_number_49 (fu + 1) σ (nI lo) (nI hi) (nI q) (nI v) = some (σ', v') ∧ TF5 σ σ' ∧ σ'.1 5 = nI k ∧ σ'.1 6 = nI x ∧ (k = 1 ∨ k = 2)
      | .inr (r', v') => fX6_number_49 (fu + 1) σ (nI lo) (nI hi) (nI q) (nI v) = some (sI (sI σ 2 (nI r')) 4 (nI r'), nI v') ∧ r ≤ r' := by
    intro r v fu σ z hv R h5
    have hL := R.2.1
    have hr := R.2.2.1
    have k1 : (nI v < nI lo) = (v < lo) := nI_ltE (by omega) (by omega)
    have k2 : (nI hi < nI v) = (hi < v) := nI_ltE (by omega) (by omega)
    have st : fX6_number_49 (fu + 1) σ (nI lo) (nI hi) (nI q) (nI v) = fX6_number_129 σ (nI lo) (nI hi) (nI q) (nI v) := by
      simp only [fX6_number_49, R.2.2.2.1, R.2.2.2.2, nI_leE (show L < 2 ^ 31 by omega) (show r < 2 ^ 31 by omega)]
      by_cases y : L ≤ r
      · rw [if_pos y]
      · have hb := R.lt r (by omega)
        rw [if_neg y, R.at (by omega), bsm, dg_t hb, bsm, if_neg (fun x => z ⟨by omega, x⟩), if_pos rfl]
    have h5' : (sI σ 4 (nI r)).1 5 = 0 := by rw [sI_n (by omega)]; exact h5
    rw [st]
    by_cases y : lo ≤ v ∧ v ≤ hi
    · rw [if_pos y]
      refine ⟨?_, Nat.le_refl _⟩
      rw [sI_id R.2.2.2.2]
      simp only [fX6_number_129, R.2.2.2.2, t_is, k1, k2, if_neg (show ¬ (v < lo ∨ hi < v) by omega), bsm, if_neg n01]
    · rw [if_neg y]
      refine ⟨sI (sI (sI σ 4 (nI r)) 5 2) 6 (nI q), nI v, ?_, (((TF5.refl σ).set _ (by omega)).set _ (by omega)).set _ (by omega), by rw [sI_n (by omega)]; exact sI_s, sI_s, Or.inr rfl⟩
      simp only [fX6_number_129, R.2.2.2.2, t_is, k1, k2, if_pos (show v < lo ∨ hi < v by omega), bsm, if_true, fail_o h5']
  intro j
  induction j with
  | zero =>
    intro r v fu σ h1 h2 h3 h4 R h5
    obtain ⟨n, rfl⟩ : ∃ n, fu = n + 1 := ⟨fu - 1, by omega⟩
    have hL := R.2.1
    have hr := R.2.2.1
    have hv := pw10 (r - q) (by omega)
    have e4 : nI r - nI q = (4 : Int32) := by rw [nI_sub h2]; exact congrArg nI (by omega)
    rw [nuF]
    by_cases z : DIa B L r
    · have hb := R.lt r (by omega)
      rw [if_pos z, if_pos (by omega)]
      refine ⟨sI (sI σ 5 1) 6 (nI r), 0, ?_, ((TF5.refl σ).set _ (by omega)).set _ (by omega), by rw [sI_n (by omega)]; exact sI_s, sI_s, Or.inl rfl⟩
      simp only [fX6_number_49, R.2.2.2.1, R.2.2.2.2, nI_leE (show L < 2 ^ 31 by omega) (show r < 2 ^ 31 by omega), if_neg (show ¬ L ≤ r by omega), R.at (show r < L by omega), bsm, dg_t hb, if_pos z.2, if_neg n01, e4, if_true, fail_o h5]
    · rw [if_neg z]
      exact stop r v n σ z (by omega) R h5
  | succ j ih =>
    intro r v fu σ h1 h2 h3 h4 R h5
    obtain ⟨n, rfl⟩ : ∃ n, fu = n + 1 := ⟨fu - 1, by omega⟩
    have hL := R.2.1
    have hr := R.2.2.1
    have hv := pw10 (r - q) (by omega)
    have e4 : (nI r - nI q = (4 : Int32)) = (r - q = 4) := by rw [nI_sub h2]; exact nI_eqE (b := 4) (by omega) (by omega)
    rw [nuF]
    by_cases z : DIa B L r
    · have hb := R.lt r (by omega)
      rw [if_pos z, if_neg (by omega)]
      have ev : (10 : Int32) * nI v + nI (B r) - 48 = nI (10 * v + B r - 48) := by
        rw [show (10 : Int32) = nI 10 from rfl, show (48 : Int32) = nI 48 from rfl, nI_mul, nI_add, nI_sub (by have := z.2; omega)]
      have hp10 : 10 ^ (r + 1 - q) = 10 * 10 ^ (r - q) := by
        rw [show r + 1 - q = (r - q) + 1 by omega, Nat.pow_succ, Nat.mul_comm]
      have I := ih (r + 1) (10 * v + B r - 48) n (sI σ 2 (nI (r + 1))) (by omega) (by omega) (by omega) (by rw [hp10]; have := z.2; omega) (R.mv (by omega)) (by rw [sI_n (by omega)]; exact h5)
      have st : fX6_number_49 (n + 1) σ (nI lo) (nI hi) (nI q) (nI v) = fX6_number_49 n (sI σ 2 (nI (r + 1))) (nI lo) (nI hi) (nI q) (nI (10 * v + B r - 48)) := by
        simp only [fX6_number_49, R.2.2.2.1, R.2.2.2.2, nI_leE (show L < 2 ^ 31 by omega) (show r < 2 ^ 31 by omega), if_neg (show ¬ L ≤ r by omega), R.at (show r < L by omega), bsm, dg_t hb, if_pos z.2, if_neg n01, e4, if_neg (show ¬ r - q = 4 by omega), ev, nI_1]
      rw [st]
      cases hn : nuF B L q lo hi (j + 1) (r + 1) (10 * v + B r - 48) with
      | inl kx =>
        rw [hn] at I
        obtain ⟨s', v', i1, i2, i3⟩ := I
        exact ⟨s', v', i1, ((TF5.refl σ).set _ (by omega)).tr i2, i3⟩
      | inr rv =>
        rw [hn] at I
        obtain ⟨i1, i2⟩ := I
        rw [sI_sI] at i1
        exact ⟨i1, by omega⟩
    · rw [if_neg z]
      exact stop r v n σ z (by omega) R h5
/-- a number at the twin -/
theorem numT2 (R : TD σ B L p) (T : TL σ B p) (h5 : σ.1 5 = 0) (hlo : lo ≤ 9999) (hhi : hi ≤ 9999) :
    match nu B L lo hi p with
    | .inl (k, x) => ∃ σ' v', fX6_number σ (nI lo) (nI hi) = some (σ', v') ∧ TF5 σ σ' ∧ σ'.1 5 = nI k ∧ σ'.1 6 = nI x ∧ (k = 1 ∨ k = 2)
    | .inr (r', v') => fX6_number σ (nI lo) (nI hi) = some (sI (sI σ 2 (nI r')) 4 (nI r'), nI v') := by
  have hL := R.2.1
  have hp' := R.2.2.1
  have ts := T.lst hp' hL
  have ql := @sk_le p L B hp'
  have lk := R.look
  unfold nu
  generalize sk B L p = q at *
  have R1 := R.mv ql
  have l1 := (ltI (K := (fun _ => none, fun _ => none, 0, 0)) (σ := sI σ 2 (nI q)) (p := q) R.lt hL (fun _ => none, 0, 0)).2.2.2
  have e4 : (sI σ 2 (nI q)).1 4 = σ.1 4 := sI_n (by omega)
  have e2 : (sI σ 2 (nI q)).1 2 = nI q := sI_s
  have e5 : (sI σ 2 (nI q)).1 5 = 0 := by rw [sI_n (by omega)]; exact h5
  have n30 : fX6_number_30 (sI σ 2 (nI q)) = some (sI (sI (sI σ 2 (nI q)) 5 1) 6 (nI q), 0) := by
    simp only [fX6_number_30, e2, fail_o e5, bsm]
  have bad : fX6_number σ (nI lo) (nI hi) = some (sI (sI (sI σ 2 (nI q)) 5 1) 6 (nI q), 0) → ∃ σ' v', fX6_number σ (nI lo) (nI hi) = some (σ', v') ∧ TF5 σ σ' ∧ σ'.1 5 = nI 1 ∧ σ'.1 6 = nI q ∧ (1 = 1 ∨ 1 = 2) := fun e =>
    ⟨_, _, e, (((TF5.refl σ).set _ (by omega)).set _ (by omega)).set _ (by omega), by rw [sI_n (by omega)]; exact sI_s, sI_s, Or.inl rfl⟩
  by_cases z : DIa B L q
  rotate_left
  · rw [if_neg (fun y => z y.1)]
    refine bad ?_
    simp only [fX6_number, h5, if_true, lk, bsm, l1, if_neg z, n30]
  by_cases z2 : PT B q
  · rw [if_neg (fun y => y.2 z2)]
    refine bad ?_
    simp only [fX6_number, h5, if_true, lk, bsm, l1, if_pos z, if_neg n01, e2, e4, ts, if_pos z2, n30]
  rw [if_pos ⟨z, z2⟩]
  have I := numT ql hlo hhi 4 q 0 FU (sI σ 2 (nI q)) (by omega) (Nat.le_refl _) (FU_lt (by omega)) (by rw [Nat.sub_self]; omega) R1 e5
  have st : fX6_number σ (nI lo) (nI hi) = fX6_number_49 FU (sI σ 2 (nI q)) (nI lo) (nI hi) (nI q) (nI 0) := by
    simp only [fX6_number, h5, if_true, lk, bsm, l1, if_pos z, if_neg n01, e2, e4, ts, if_neg z2]
    rfl
  rw [st]
  cases hn : nuF B L q lo hi 5 q 0 with
  | inl kx =>
    rw [show (4 : Nat) + 1 = 5 from rfl, hn] at I
    obtain ⟨s', v', i1, i2, i3⟩ := I
    exact ⟨s', v', i1, ((TF5.refl σ).set _ (by omega)).tr i2, i3⟩
  | inr rv =>
    rw [show (4 : Nat) + 1 = 5 from rfl, hn] at I
    obtain ⟨i1, i2⟩ := I
    rw [sI_sI] at i1
    exact i1
theorem num_5 (h5 : ¬ σ.1 5 = 0) (x y : Int32) : fX6_number σ x y = some (σ, 0) := by
  simp only [fX6_number, if_neg h5]
end PNT

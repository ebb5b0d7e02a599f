/-! PARSER, numbers -/
set_option maxRecDepth 100000
def nuF (B : Nat → Nat) (L q lo hi : Nat) : Nat → Nat → Nat → (Nat × Nat) ⊕ (Nat × Nat)
  | 0, r, _ => .inl (1, r)
  | j + 1, r, v => if DIa B L r then (if r - q = 4 then .inl (1, r) else nuF B L q lo hi j (r + 1) (10 * v + B r - 48)) else if lo ≤ v ∧ v ≤ hi then .inr (r, v) else .inl (2, q)
/-- a number: (kind, place) of what is wrong, or (where it ends, what it is) -/
def nu (B : Nat → Nat) (L lo hi p : Nat) : (Nat × Nat) ⊕ (Nat × Nat) := if DIa B L (sk B L p) ∧ ¬ PT B (sk B L p) then nuF B L (sk B L p) lo hi 5 (sk B L p) 0 else .inl (1, sk B L p)
/-- thrown: kind k, place x -/
def CE (a s : Nat) (M : CM) {α : Type} (res : Option (HS × (Nat ⊕ α))) (k x : Nat) : Prop := ∃ M', res = some (hp a M', .inl (a + 10)) ∧ EX s M M' ∧ M'.1 10 6 = nI k ∧ M'.1 10 7 = nI x
section PNU
variable {K : KE} {a i n k p q e L lo hi : Nat} {M M' : CM} {σ σ' : MS} {B : Nat → Nat}
theorem pw10 : ∀ n, n < 5 → 10 ^ n ≤ 10000 := by decide
theorem numC (hq : q ≤ L) (hlo : lo ≤ 9999) (hhi : hi ≤ 9999) : ∀ (j r v fu : Nat) (M : CM), r - q + j = 4 → q ≤ r → j + 1 < fu → v < 10 ^ (r - q) → RD M B L r → M.1 9 3 = nI q →
    match nuF B L q lo hi (j + 1) r v with
    | .inl (k, x) => ∃ M', fX2_number_2_34 K (a + 9) fu (hp a M) (nI lo) (nI hi) (nI v) = some (hp a M', .inl (a + 10)) ∧ M'.2 = M.2 ∧ (∀ o, o ≠ 9 → o ≠ 10 → M'.1 o = M.1 o) ∧ M'.1 10 6 = nI k ∧ M'.1 10 7 = nI x
    | .inr (r', v') => fX2_number_2_34 K (a + 9) fu (hp a M) (nI lo) (nI hi) (nI v) = some (hp a (mI M 9 2 (nI r')), .inr (nI v')) ∧ r' ≤ L ∧ r ≤ r' ∧ lo ≤ v' ∧ v' ≤ hi := by
  have stop : ∀ (r v fu : Nat) (M : CM), ¬ DIa B L r → v < 10000 → RD M B L r → M.1 9 3 = nI q →
      match (if lo ≤ v ∧ v ≤ hi then (.inr (r, v) : (Nat × Nat) ⊕ (Nat × Nat)) else .inl (2, q)) with
      | .inl (k, x) => ∃ M', fX2_number_2_34 K (a + 9) (fu + 1) (hp a M) (nI lo) (nI hi) (nI v) = some (hp a M', .inl (a + 10)) ∧ M'.2 = M.2 ∧ (∀ o, o ≠ 9 → o ≠ 10 → M'.1 o = M.1 o) ∧ M'.1 10 6 = nI k ∧ M'.1 10 7 = nI x
      | .inr (r', v') => fX2_number_2_34 K (a + 9) (fu + 1) (hp a M) (nI lo) (nI hi) (nI v) = some (hp a (mI M 9 2 (nI r')), .inr (nI v')) ∧ r' ≤ L ∧ r ≤ r' ∧ lo ≤ v' ∧ v' ≤ hi := by
    intro r v fu M z hv R e3
    have hL := R.2.1
    have hr := R.2.2.1
    have l1 := (ltI (K := K) (σ := (fun _ => 0, fun _ => 0, fun _ _ => 0, fun _ _ => 0)) (p := r) R.lt hL (hp a M)).2.2.1
    have k1 : (nI v < nI lo) = (v < lo) := nI_ltE (by omega) (by omega)
    have k2 : (nI hi < nI v) = (hi < v) := nI_ltE (by omega) (by omega)
    by_cases y : lo ≤ v ∧ v ≤ hi
    · rw [if_pos y]
      refine ⟨?_, hr, Nat.le_refl _, y.1, y.2⟩
      rw [mI_id R.2.2.2.2]
      simp only [fX2_number_2_34, r_g2, R.2.2.2.2, bsm, r_rcv, R.by (K := K) (a := a) (show r ≤ 1600 by omega), l1, if_neg z, if_true, c_is, k1, k2, if_neg (show ¬ (v < lo ∨ hi < v) by omega), if_neg n01]
    · rw [if_neg y]
      refine ⟨wr M 2 (nI q), ?_, rfl, fun o h1 h2 => by rw [wr, mI_o h2, mI_o h2], by rw [wr, mI_n (by omega)]; exact mI_s, mI_s⟩
      simp only [fX2_number_2_34, r_g2, R.2.2.2.2, bsm, r_rcv, R.by (K := K) (a := a) (show r ≤ 1600 by omega), l1, if_neg z, if_true, c_is, k1, k2, if_pos (show v < lo ∨ hi < v by omega), r_g3, e3, wrong_o, f_rcv]
  intro j
  induction j with
  | zero =>
    intro r v fu M h1 h2 h3 h4 R e3
    obtain ⟨n, rfl⟩ : ∃ n, fu = n + 1 := ⟨fu - 1, by omega⟩
    have hL := R.2.1
    have hr := R.2.2.1
    have hv := pw10 (r - q) (by omega)
    have l1 := (ltI (K := K) (σ := (fun _ => 0, fun _ => 0, fun _ _ => 0, fun _ _ => 0)) (p := r) R.lt hL (hp a M)).2.2.1
    have e4 : nI r - nI q = (4 : Int32) := by rw [nI_sub h2]; exact congrArg nI (by omega)
    rw [nuF]
    by_cases z : DIa B L r
    · rw [if_pos z, if_pos (by omega)]
      refine ⟨wr M 1 (nI r), ?_, rfl, fun o h1 h2 => by rw [wr, mI_o h2, mI_o h2], by rw [wr, mI_n (by omega)]; exact mI_s, mI_s⟩
      simp only [fX2_number_2_34, r_g2, R.2.2.2.2, bsm, r_rcv, R.by (K := K) (a := a) (show r ≤ 1600 by omega), l1, if_pos z, if_neg n01, r_g3, e3, e4, if_true, wrong_o, f_rcv]
    · rw [if_neg z]
      exact stop r v n M z (by omega) R e3
  | succ j ih =>
    intro r v fu M h1 h2 h3 h4 R e3
    obtain ⟨n, rfl⟩ : ∃ n, fu = n + 1 := ⟨fu - 1, by omega⟩
    have hL := R.2.1
    have hr := R.2.2.1
    have hv := pw10 (r - q) (by omega)
    have l1 := (ltI (K := K) (σ := (fun _ => 0, fun _ => 0, fun _ _ => 0, fun _ _ => 0)) (p := r) R.lt hL (hp a M)).2.2.1
    have e4 : (nI r - nI q = (4 : Int32)) = (r - q = 4) := by rw [nI_sub h2]; exact nI_eqE (b := 4) (by omega) (by omega)
    rw [nuF]
    by_cases z : DIa B L r
    · rw [if_pos z, if_neg (by omega)]
      have ev : (10 : Int32) * nI v + nI (B r) - 48 = nI (10 * v + B r - 48) := by
        rw [show (10 : Int32) = nI 10 from rfl, show (48 : Int32) = nI 48 from rfl, nI_mul, nI_add, nI_sub (by have := z.2; omega)]
      have cr' : chI B L r = nI (B r) := by rw [chI, if_pos z.1]
      rw [cr'] at l1
      have hp10 : 10 ^ (r + 1 - q) = 10 * 10 ^ (r - q) := by
        rw [show r + 1 - q = (r - q) + 1 by omega, Nat.pow_succ, Nat.mul_comm]
      have I := ih (r + 1) (10 * v + B r - 48) n (mI M 9 2 (nI (r + 1))) (by omega) (by omega) (by omega) (by rw [hp10]; have := z.2; omega) (R.mv (by omega)) (by rw [mI_n (by omega)]; exact e3)
      have st : fX2_number_2_34 K (a + 9) (n + 1) (hp a M) (nI lo) (nI hi) (nI v) = fX2_number_2_34 K (a + 9) n (hp a (mI M 9 2 (nI (r + 1)))) (nI lo) (nI hi) (nI (10 * v + B r - 48)) := by
        simp only [fX2_number_2_34, r_g2, R.2.2.2.2, bsm, r_rcv, R.by (K := K) (a := a) (show r ≤ 1600 by omega), l1, if_pos z, if_neg n01, r_g3, e3, e4, if_neg (show ¬ r - q = 4 by omega), cr', ev, nI_1, r_p2]
      rw [st]
      cases hn : nuF B L q lo hi (j + 1) (r + 1) (10 * v + B r - 48) with
      | inl kx =>
        rw [hn] at I
        obtain ⟨M', i1, i2, i3, i4⟩ := I
        exact ⟨M', i1, i2, fun o h1 h2 => by rw [i3 o h1 h2, mI_o h1], i4⟩
      | inr rv =>
        rw [hn] at I
        obtain ⟨i1, i2, i3, i4⟩ := I
        rw [mI_mI] at i1
        exact ⟨i1, i2, by omega, i4⟩
    · rw [if_neg z]
      exact stop r v n M z (by omega) R e3
/-- a number at the component -/
theorem numC2 (R : RD M B L p) (hlo : lo ≤ 9999) (hhi : hi ≤ 9999) :
    match nu B L lo hi p with
    | .inl (k, x) => ∃ M', fX2_number_2 K (hp a M) (a + 9) (nI lo) (nI hi) = some (hp a M', .inl (a + 10)) ∧ M'.2 = M.2 ∧ (∀ o, o ≠ 9 → o ≠ 10 → M'.1 o = M.1 o) ∧ M'.1 10 6 = nI k ∧ M'.1 10 7 = nI x
    | .inr (r', v') => (∃ M', fX2_number_2 K (hp a M) (a + 9) (nI lo) (nI hi) = some (hp a M', .inr (nI v')) ∧ M'.2 = M.2 ∧ (∀ o, o ≠ 9 → M'.1 o = M.1 o) ∧ (∀ k, k ≠ 2 → k ≠ 3 → M'.1 9 k = M.1 9 k) ∧ RD M' B L r') ∧ sk B L p ≤ r' ∧ lo ≤ v' ∧ v' ≤ hi := by
  have hL := R.2.1
  have hp' := R.2.2.1
  have hh := R.here (K := K) (a := a)
  have ql := @sk_le p L B hp'
  unfold nu
  generalize sk B L p = q at *
  have R1 := R.mv ql
  have l1 := (ltI (K := K) (σ := (fun _ => 0, fun _ => 0, fun _ _ => 0, fun _ _ => 0)) (p := q) R.lt hL (hp a (mI M 9 2 (nI q)))).2.2.1
  have p2 : (mI M 9 2 (nI q)).1 9 2 = nI q := mI_s
  have bad : (fX2_number_2 K (hp a M) (a + 9) (nI lo) (nI hi) = some (hp a (wr (mI M 9 2 (nI q)) 1 (nI q)), .inl (a + 10))) → ∃ M', fX2_number_2 K (hp a M) (a + 9) (nI lo) (nI hi) = some (hp a M', .inl (a + 10)) ∧ M'.2 = M.2 ∧ (∀ o, o ≠ 9 → o ≠ 10 → M'.1 o = M.1 o) ∧ M'.1 10 6 = nI 1 ∧ M'.1 10 7 = nI q := fun e =>
    ⟨_, e, rfl, fun o h1 h2 => by rw [wr, mI_o h2, mI_o h2, mI_o h1], by rw [wr, mI_n (by omega)]; exact mI_s, mI_s⟩
  by_cases z : DIa B L q
  rotate_left
  · rw [if_neg (fun y => z y.1)]
    refine bad ?_
    simp only [fX2_number_2, r_rcv, bsm, hh, l1, if_neg z, if_true, r_g2, p2, wrong_o, f_rcv]
  have po := parted_o (K := K) (a := a) R1
  by_cases z2 : PT B q
  · rw [if_neg (fun y => y.2 z2)]
    rw [if_pos z2] at po
    refine bad ?_
    simp only [fX2_number_2, r_rcv, bsm, hh, l1, if_pos z, if_neg n01, po, tb]
  rw [if_neg z2] at po
  rw [if_pos ⟨z, z2⟩]
  have R2 : RD (mI (mI M 9 2 (nI q)) 9 3 (nI q)) B L q := ⟨R1.1.to (mI_o (by omega)), hL, ql, by rw [mI_n (by omega)]; exact R1.2.2.2.1, by rw [mI_n (by omega)]; exact R1.2.2.2.2⟩
  have I := numC (K := K) (a := a) ql hlo hhi 4 q 0 FU (mI (mI M 9 2 (nI q)) 9 3 (nI q)) (by omega) (Nat.le_refl _) (FU_lt (by omega)) (by rw [Nat.sub_self]; omega) R2 mI_s
  have st : fX2_number_2 K (hp a M) (a + 9) (nI lo) (nI hi) = fX2_number_2_34 K (a + 9) FU (hp a (mI (mI M 9 2 (nI q)) 9 3 (nI q))) (nI lo) (nI hi) (nI 0) := by
    simp only [fX2_number_2, r_rcv, bsm, hh, l1, if_pos z, if_neg n01, po, tb, r_g2, p2, r_p3]
    rfl
  rw [st]
  cases hn : nuF B L q lo hi 5 q 0 with
  | inl kx =>
    rw [show (4 : Nat) + 1 = 5 from rfl, hn] at I
    obtain ⟨M', i1, i2, i3, i4⟩ := I
    exact ⟨M', i1, i2, fun o h1 h2 => by rw [i3 o h1 h2, mI_o h1, mI_o h1], i4⟩
  | inr rv =>
    rw [show (4 : Nat) + 1 = 5 from rfl, hn] at I
    obtain ⟨i1, i2, i3, i4⟩ := I
    exact ⟨⟨_, i1, rfl, fun o h1 => by rw [mI_o h1, mI_o h1, mI_o h1], fun k h1 h2 => by rw [mI_n (by omega), mI_n (by omega), mI_n (by omega)], R2.mv i2⟩, i3, i4⟩
end PNU

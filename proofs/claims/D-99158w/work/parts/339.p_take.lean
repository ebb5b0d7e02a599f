/-! PARSER, takes and asks at the twin; signs at both -/
set_option maxRecDepth 100000
section PTK
variable {K : KE} {a i n k p q e L kw c : Nat} {M M' : CM} {σ σ' : MS} {B : Nat → Nat}
/-- a word is taken -/
theorem takes_o (R : TD σ B L p) (T : TL σ B p) (W : WD σ) (hw : isW kw) (h5 : σ.1 5 = 0) : fX6_takes σ kw = if HW B L (sk B L p) (wdL kw) then some (sI (sI σ 2 (nI (we B L (sk B L p)))) 4 (nI (we B L (sk B L p))), 1) else some (sI σ 2 (nI (sk B L p)), 0) := by
  have hk : kw < 91 := by unfold isW at hw; omega
  obtain ⟨w1, w2, w3, w4⟩ := isW_l kw hk hw
  have aN' : aN kw = some (nI (wdL kw).length) := by
    unfold aN
    rw [if_pos (by rw [w1]; omega), w2]
  have ih := isHere_o R T W hw h5
  have g := @we_ge (sk B L p) L B
  generalize sk B L p = q at *
  have e2 : (sI σ 2 (nI q)).1 2 = nI q := sI_s
  by_cases z : HW B L q (wdL kw)
  · rw [if_pos z] at ih ⊢
    have e3 : nI q + nI (wdL kw).length = nI (we B L q) := by
      rw [nI_add]
      exact congrArg nI (by have := z.2.1; omega)
    simp only [fX6_takes, ih, bsm, if_neg n01, aN', e2, e3, sI_sI, sI_s]
  · rw [if_neg z] at ih ⊢
    simp only [fX6_takes, ih, bsm, if_true]
theorem takes_5 (h5 : ¬ σ.1 5 = 0) : fX6_takes σ kw = some (σ, 0) := by
  simp only [fX6_takes, fX6_isHere, if_neg h5, bsm, if_true]
theorem fail_o (h5 : σ.1 5 = 0) (x y : Int32) : fX6_fail σ x y = some (sI (sI σ 5 x) 6 y) := by
  simp only [fX6_fail, h5, if_true]
theorem fail_5 (h5 : ¬ σ.1 5 = 0) (x y : Int32) : fX6_fail σ x y = some σ := by
  simp only [fX6_fail, if_neg h5]
theorem asks_o (R : TD σ B L p) (T : TL σ B p) (W : WD σ) (hw : isW kw) (h5 : σ.1 5 = 0) : fX6_asks σ kw = if HW B L (sk B L p) (wdL kw) then some (sI (sI σ 2 (nI (we B L (sk B L p)))) 4 (nI (we B L (sk B L p)))) else some (sI (sI (sI σ 2 (nI (sk B L p))) 5 1) 6 (nI (sk B L p))) := by
  have t := takes_o R T W hw h5
  generalize sk B L p = q at *
  have e2 : (sI σ 2 (nI q)).1 2 = nI q := sI_s
  have e5 : (sI σ 2 (nI q)).1 5 = 0 := by rw [sI_n (by omega)]; exact h5
  by_cases z : HW B L q (wdL kw)
  · rw [if_pos z] at t ⊢
    simp only [fX6_asks, h5, if_true, t, bsm, if_neg n01]
  · rw [if_neg z] at t ⊢
    simp only [fX6_asks, h5, if_true, t, bsm, e2, fail_o e5]
theorem asks_5 (h5 : ¬ σ.1 5 = 0) : fX6_asks σ kw = some σ := by
  simp only [fX6_asks, if_neg h5]
/-- a sign stands at q -/
abbrev SI (B : Nat → Nat) (L q c : Nat) : Prop := q < L ∧ B q = c
theorem takesSign_o (R : TD σ B L p) (h5 : σ.1 5 = 0) (hc : c < 256) : fX6_takesSign σ (nI c) = if SI B L (sk B L p) c then some (sI σ 2 (nI (sk B L p + 1)), 1) else some (sI σ 2 (nI (sk B L p)), 0) := by
  have lk := R.look
  have ce := ch_eq (p := sk B L p) (c := c) R.lt R.2.1 hc
  generalize sk B L p = q at *
  have e2 : (sI σ 2 (nI q)).1 2 = nI q := sI_s
  simp only [fX6_takesSign, h5, if_true, lk, bsm, ce, e2, nI_1, sI_sI]
theorem takesSign_5 (h5 : ¬ σ.1 5 = 0) (x : Int32) : fX6_takesSign σ x = some (σ, 0) := by
  simp only [fX6_takesSign, if_neg h5]
theorem asksSign_o (R : TD σ B L p) (h5 : σ.1 5 = 0) (hc : c < 256) : fX6_asksSign σ (nI c) = if SI B L (sk B L p) c then some (sI σ 2 (nI (sk B L p + 1))) else some (sI (sI (sI σ 2 (nI (sk B L p))) 5 1) 6 (nI (sk B L p))) := by
  have t := takesSign_o R h5 hc
  generalize sk B L p = q at *
  have e2 : (sI σ 2 (nI q)).1 2 = nI q := sI_s
  have e5 : (sI σ 2 (nI q)).1 5 = 0 := by rw [sI_n (by omega)]; exact h5
  by_cases z : SI B L q c
  · rw [if_pos z] at t ⊢
    simp only [fX6_asksSign, h5, if_true, t, bsm, if_neg n01]
  · rw [if_neg z] at t ⊢
    simp only [fX6_asksSign, h5, if_true, t, bsm, e2, fail_o e5]
theorem asksSign_5 (h5 : ¬ σ.1 5 = 0) (x : Int32) : fX6_asksSign σ x = some σ := by
  simp only [fX6_asksSign, if_neg h5]
/-- the component: a sign is taken, a sign must stand -/
theorem takesC (R : RD M B L p) (hc : c < 256) : fX2_takes K (hp a M) (a + 9) (nI c) = if SI B L (sk B L p) c then some (hp a (mI M 9 2 (nI (sk B L p + 1))), 1) else some (hp a (mI M 9 2 (nI (sk B L p))), 0) := by
  have lk := R.here (K := K) (a := a)
  have ce := ch_eq (p := sk B L p) (c := c) R.lt R.2.1 hc
  generalize sk B L p = q at *
  have e2 : (mI M 9 2 (nI q)).1 9 2 = nI q := mI_s
  have z1 : zr 1 = some 1 := by decide
  have z0 : zr 0 = some 0 := by decide
  by_cases z : SI B L q c
  · rw [if_pos z]
    simp only [fX2_takes, r_rcv, bsm, lk, ce, if_pos z, fX2_takes_13, r_g2, e2, if_neg n01, fX2_takes_28, nI_1, r_p2, mI_mI, z1]
  · rw [if_neg z]
    simp only [fX2_takes, r_rcv, bsm, lk, ce, if_neg z, fX2_takes_13, r_g2, e2, if_true, fX2_takes_28, Int32.add_zero, r_p2, mI_mI, z0]
theorem mustC (R : RD M B L p) (hc : c < 256) : fX2_must K (hp a M) (a + 9) (nI c) = if SI B L (sk B L p) c then some (hp a (mI M 9 2 (nI (sk B L p + 1))), .inr ()) else some (hp a (wr (mI M 9 2 (nI (sk B L p))) 1 (nI (sk B L p))), .inl (a + 10)) := by
  have lk := R.here (K := K) (a := a)
  have ce := ch_eq (p := sk B L p) (c := c) R.lt R.2.1 hc
  generalize sk B L p = q at *
  have e2 : (mI M 9 2 (nI q)).1 9 2 = nI q := mI_s
  by_cases z : SI B L q c
  · rw [if_pos z]
    simp only [fX2_must, r_rcv, bsm, lk, ce, if_pos z, r_g2, e2, nI_1, r_p2, mI_mI]
  · rw [if_neg z]
    simp only [fX2_must, r_rcv, bsm, lk, ce, if_neg z, r_g2, e2, wrong_o, f_rcv]
theorem opensC (x : Int32) (d : Nat) (hd : d ≤ 6) (e : M.1 9 4 = nI d) : fX2_opens K (hp a M) (a + 9) x = if d = 6 then some (hp a (wr M 4 x), .inl (a + 10)) else some (hp a (mI M 9 4 (nI (d + 1))), .inr ()) := by
  have k6 : (nI d = (6 : Int32)) = (d = 6) := nI_eqE (b := 6) (by omega) (by omega)
  by_cases z : d = 6
  · rw [if_pos z]
    simp only [fX2_opens, r_g4, e, bsm, k6, if_pos z, r_rcv, wrong_o, f_rcv]
  · rw [if_neg z]
    simp only [fX2_opens, r_g4, e, bsm, k6, if_neg z, nI_1, r_p4]
theorem mostC (x y : Int32) : fX2_most K (hp a M) (a + 9) x y = if x = 0 then some (hp a M, .inr ()) else some (hp a (wr M 5 y), .inl (a + 10)) := by
  by_cases z : x = 0
  · rw [if_pos z]
    simp only [fX2_most, if_pos z]
  · rw [if_neg z]
    simp only [fX2_most, if_neg z, r_rcv, bsm, wrong_o, f_rcv]
end PTK

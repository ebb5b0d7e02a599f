/-! PLAIN LAW, the tape: bytes are fed; refusals; seeds -/
set_option maxRecDepth 100000
section PFD
variable {K : KE} {a i n k f p m nk nf np hr tp : Nat} {M M' : CM} {σ σ' : MS} {pt : Nat → Nat} {vl vf vm : Option Nat}
theorem ZP.to (Z : ZP M σ) (e1 : M'.1 8 = M.1 8) (e2 : σ'.2.2.1 0 = σ.2.2.1 0) : ZP M' σ' := fun k hk => by rw [e1, e2]; exact Z k hk
theorem ZF.to (Z : ZF M σ) (e1 : M'.1 0 3 = M.1 0 3) (e2 : M'.1 0 4 = M.1 0 4) (e3 : σ'.1 7 = σ.1 7) (e4 : σ'.1 8 = σ.1 8) : ZF M' σ' := ⟨by rw [e1, e3]; exact Z.1, by rw [e2, e4]; exact Z.2⟩
theorem ZR.to (Z : ZR M σ) (e1 : M'.1 15 = M.1 15) (e2 : σ'.2.2.1 9 = σ.2.2.1 9) : ZR M' σ' := fun k hk => by rw [e1, e2]; exact Z k hk
theorem ZW.to (Z : ZW M σ nf) (e1 : M'.1 0 15 = M.1 0 15) (e2 : ∀ o, o = 167 ∨ o = 168 ∨ o = 169 → M'.1 o = M.1 o) (e3 : σ'.1 65 = σ.1 65) (e4 : σ'.2.2.1 66 = σ.2.2.1 66) : ZW M' σ' nf := by
  obtain ⟨rw', q1, q2, q3, q4⟩ := Z
  refine ⟨rw', q1, by rw [e1]; exact q2, by rw [e3]; exact q3, fun k hk => ?_⟩
  rw [e2 167 (by omega), e2 168 (by omega), e2 169 (by omega), e4]
  exact q4 k hk
theorem ZS.to (Z : ZS M σ) (e1 : M'.2.1 0 18 = M.2.1 0 18) (e2 : σ'.2.1 70 = σ.2.1 70) : ZS M' σ' := by
  obtain ⟨s, q1, q2, q3⟩ := Z
  exact ⟨s, q1, by rw [e1]; exact q2, by rw [e2]; exact q3⟩
theorem ZO.to (Z : ZO M σ) (e1 : M'.1 0 21 = M.1 0 21) (e2 : M'.1 1351 = M.1 1351) (e3 : σ'.1 102 = σ.1 102) (e4 : σ'.2.2.1 101 = σ.2.2.1 101) : ZO M' σ' := by
  obtain ⟨oc, q1, q2, q3, q4⟩ := Z
  exact ⟨oc, q1, by rw [e1]; exact q2, by rw [e3]; exact q3, fun k hk => by rw [e2, e4]; exact q4 k hk⟩
theorem ZT.to (Z : ZT K a M σ n) (e1 : M'.1 0 2 = M.1 0 2) (e2 : M'.2.2.2 = M.2.2.2) (e3 : σ'.1 1 = σ.1 1) : ZT K a M' σ' n := by
  obtain ⟨tp, z1, z2, z3, z4⟩ := Z
  exact ⟨tp, z1, by rw [e1]; exact z2, by rw [e3]; exact z3, by unfold AL; rw [e2]; exact z4⟩
theorem RA.to (Z : RA a M) (e1 : ∀ o, 16 ≤ o → M'.1 o = M.1 o) (e2 : ∀ o, 16 ≤ o → M'.2.2.1 o = M.2.2.1 o) : RA a M' := fun i hi => by
  obtain ⟨π, kp, R⟩ := Z i hi
  have hs := sbo_lt hi
  exact ⟨π, kp, R.to (by rw [e1 _ (by omega)]) (e2 _ (by omega))⟩
theorem WD.to (Z : WD σ) (e : ∀ k, 10 ≤ k ∧ k ≤ 38 ∨ 71 ≤ k ∧ k ≤ 90 → σ'.2.2.1 k = σ.2.2.1 k) : WD σ' := fun k j hj => by
  have hk : 10 ≤ k ∧ k ≤ 38 ∨ 71 ≤ k ∧ k ≤ 90 := by
    by_cases q : 10 ≤ k ∧ k ≤ 38 ∨ 71 ≤ k ∧ k ≤ 90
    · exact q
    · exfalso
      have : wdL k = [] := by
        unfold wdL
        split <;> first | rfl | omega
      rw [this] at hj
      simp at hj
  rw [e k hk]
  exact Z k j hj
theorem UpE.sA {v : Int32} {j : Nat} (h : UpE σ σ') (hk : k < 40 ∨ 50 < k ∨ k = 46) : UpE σ (sA σ' k j v) := ⟨fun q hq => by rw [sA_n (by omega)]; exact h.1 q hq, h.2⟩
theorem UpE.sI {v : Int32} (h : UpE σ σ') : UpE σ (sI σ' k v) := h
theorem UpE.sL {v : Int64} (h : UpE σ σ') : UpE σ (sL σ' k v) := h
theorem KS.nr (Z : KS a M 0 (σ.2.2.1 54) np pt) (hn : np ≤ 5) (e1 : ∀ o, 16 ≤ o → o < 75 → M'.1 o = M.1 o) (e2 : M'.2.2.1 32 = M.2.2.1 32) (e3 : σ'.2.2.1 54 = σ.2.2.1 54) : KS a M' 0 (σ'.2.2.1 54) np pt :=
  Z.to (by omega) hn (fun t ht => e1 _ (by show 16 ≤ 16 + t; omega) (by show 16 + t < 75; omega)) e2 (fun j _ => by rw [e3])
/-- one refusal more -/
theorem refC (hk : k < 6) : fX0_refuses K (hp a M) a (nI k) = some (hp a (mI M 15 k (M.1 15 k + 1)), -1) := by
  simp only [fX0_refuses, x_g8, bsm, c_refs hk, p_refs hk]
theorem refT (hk : k < 6) (σ : MS) : aI σ 9 (nI k) = some (σ.2.2.1 9 k) ∧ tI σ 9 (nI k) (σ.2.2.1 9 k + 1) = some (sA σ 9 k (σ.2.2.1 9 k + 1)) := ⟨tg9 hk, tp9 hk⟩
theorem RE.ref (E : RE K a M σ n nf np pt) (hn : np ≤ 5) (hk : k < 6) : RE K a (mI M 15 k (M.1 15 k + 1)) (sA σ 9 k (σ.2.2.1 9 k + 1)) n nf np pt := by
  obtain ⟨h1, h2, h3, h4, h5, h6, h7, h8, h9, h10, h11⟩ := E
  refine ⟨h1.to (fun o ho => mI_o (by omega)) (fun _ _ => rfl), h2.to (mI_n (by omega)) rfl rfl, h3.to (mI_o (by omega)) (sA_n (by omega)), h4.to (mI_n (by omega)) (mI_n (by omega)) rfl rfl, fun j hj => ?_, h6.to (mI_n (by omega)) (fun o ho => mI_o (by omega)) rfl (sA_n (by omega)), h7.to rfl rfl, h8.to (mI_n (by omega)) (mI_o (by omega)) rfl (sA_n (by omega)), ?_, h10, h11.to (fun k hk => sA_n (by omega))⟩
  · by_cases e : j = k
    · subst e
      rw [mI_s, sA_s, h5 j hj]
    · rw [mI_n (Or.inr e), sA_m e]
      exact h5 j hj
  · obtain ⟨u, nw, κ, q1, q2, q3, q4, q5, q6, q7, q8⟩ := h9
    refine ⟨u, nw, κ, q1, q2, by rw [mI_n (by omega)]; exact q3, q4, q5, q6, q7, fun j hj => ?_⟩
    have hk' := (q6 j (by omega)).1
    have hs := sbo_c (2 + κ j)
    exact (q8 j hj).to (by omega) hn (fun t' ht => mI_o (by omega)) rfl (fun j _ => by rw [sA_n (by omega)])
/-- a call that is refused -/
theorem IV.ref (I : IV K a (hp a M) σ n) (hk : k < 6) : ∃ M1, hp a M = hp a M1 ∧ fX0_refuses K (hp a M1) a (nI k) = some (hp a (mI M1 15 k (M1.1 15 k + 1)), -1) ∧ IV K a (hp a (mI M1 15 k (M1.1 15 k + 1))) (sA σ 9 k (σ.2.2.1 9 k + 1)) n := by
  obtain ⟨M1, nk, nf, np, pt, vl, vf, vm, h1, X, H, N, E⟩ := I
  have b := X.bk
  refine ⟨M1, h1, refC hk, _, nk, nf, np, pt, vl, vf, vm, rfl, X.to ⟨rfl, rfl⟩ ((UpE.refl σ).sA (k := 9) (by omega)).up, H.up ((UpE.refl σ).sA (k := 9) (by omega)).up, N.nr b.2.2 (fun o h1 h2 => mI_o (by omega)) rfl (sA_n (by omega)), E.ref b.2.2 hk⟩
theorem z18 {x : Int32} (h : 0 ≤ x) : ∃ s, s < 2 ^ 31 ∧ x.toInt64 = lN s := by
  obtain ⟨j, h1, rfl⟩ := nI_of (x := x) (by rw [Int32.lt_iff_toInt_lt]; rw [Int32.le_iff_toInt_le] at h; omega)
  exact ⟨j, h1, nI_l h1⟩
theorem ps29 : PS29 K a (IV K a) := by
  intro h σ n x hn I
  have I' := I.next
  have hI := I
  obtain ⟨M, nk, nf, np, pt, vl, vf, vm, rfl, X, H, N, E⟩ := I
  have b := X.bk
  by_cases h0 : 0 ≤ x
  · refine ⟨hp a (mL M 0 18 x.toInt64), sL σ 70 x.toInt64, 1, by simp only [fX0_seed, if_pos h0, x_p18, bsm], by simp only [fX6_seed, if_pos h0], mL M 0 18 x.toInt64, nk, nf, np, pt, vl, vf, vm, rfl, X.to ⟨rfl, rfl⟩ (UpE.refl σ).up, H, N, ?_⟩
    obtain ⟨h1, h2, h3, h4, h5, h6, h7, h8, h9, h10, h11⟩ := E.next
    obtain ⟨s, s1, s2⟩ := z18 h0
    exact ⟨h1, h2, h3, h4, h5, h6, ⟨s, s1, by rw [mL_s, s2], by rw [sL_2, if_pos rfl, s2]⟩, h8, h9, h10, h11⟩
  · obtain ⟨M1, e1, e2, e3⟩ := I'.ref (k := 5) (by omega)
    obtain ⟨t1, t2⟩ := refT (k := 5) (by omega) σ
    have t1' : aI σ 9 (5 : Int32) = some (σ.2.2.1 9 5) := t1
    have t2' : tI σ 9 (5 : Int32) (σ.2.2.1 9 5 + 1) = some (sA σ 9 5 (σ.2.2.1 9 5 + 1)) := t2
    have e2' : fX0_refuses K (hp a M1) a (5 : Int32) = some (hp a (mI M1 15 5 (M1.1 15 5 + 1)), -1) := e2
    refine ⟨_, _, 0, ?_, by simp only [fX6_seed, if_neg h0, t1', bsm, t2'], e3⟩
    rw [e1]
    simp only [fX0_seed, if_neg h0, x_rcv, bsm, e2', if_pos (show (-1 : Int32) < 0 by decide)]
theorem ps1 : PS1 K a (IV K a) := by
  intro h σ n x hn I
  have I' := I.next
  have bad : ∃ (h' : HS) (σ' : MS), fX0_end_12 K a h = some (h', 0) ∧ fX6_end_12 σ = some (σ', 0) ∧ IV K a h' σ' (n + 1) := by
    obtain ⟨M, nk, nf, np, pt, vl, vf, vm, rfl, X, H, N, E⟩ := I
    obtain ⟨M1, e1, e2, e3⟩ := I'.ref (k := 0) (by omega)
    obtain ⟨t1, t2⟩ := refT (k := 0) (by omega) σ
    have t1' : aI σ 9 (0 : Int32) = some (σ.2.2.1 9 0) := t1
    have t2' : tI σ 9 (0 : Int32) (σ.2.2.1 9 0 + 1) = some (sA σ 9 0 (σ.2.2.1 9 0 + 1)) := t2
    have e2' : fX0_refuses K (hp a M1) a (0 : Int32) = some (hp a (mI M1 15 0 (M1.1 15 0 + 1)), -1) := e2
    refine ⟨_, _, ?_, by simp only [fX6_end_12, t1', bsm, t2'], e3⟩
    rw [e1]
    simp only [fX0_end_12, x_rcv, bsm, e2', if_pos (show (-1 : Int32) < 0 by decide)]
  obtain ⟨h', σ', b1, b2, b3⟩ := bad
  obtain ⟨M, nk, nf, np, pt, vl, vf, vm, rfl, X, H, N, E⟩ := I
  have b := X.bk
  obtain ⟨h1, ⟨tp, z1, z2, z3, z4⟩, h3, h4, h5, h6, h7, h8, h9, h10, h11⟩ := E.next
  by_cases h0 : x < 0
  · exact ⟨h', σ', 0, by simp only [fX0_end, if_pos h0, b1], by simp only [fX6_end, if_pos h0, b2], b3⟩
  by_cases hx : x ≤ nI tp
  · obtain ⟨j, j1, rfl⟩ := nI_of h0
    have hj : j ≤ tp := by rw [nI_leE j1 (by omega)] at hx; exact hx
    refine ⟨hp a (mI M 0 2 (nI j)), sI σ 1 (nI j), 1, by simp only [fX0_end, if_neg h0, x_g2, bsm, z2, if_pos hx, x_p2], by simp only [fX6_end, if_neg h0, z3, if_pos hx], mI M 0 2 (nI j), nk, nf, np, pt, vl, vf, vm, rfl, X.to ⟨rfl, rfl⟩ (UpE.refl σ).up, H, N.nr b.2.2 (fun o h1 h2 => mI_o (by omega)) rfl rfl, ?_⟩
    refine ⟨h1.to (fun o ho => mI_o (by omega)) (fun _ _ => rfl), ⟨j, by omega, mI_s, by rw [sI_s], z4.1, ?_, ?_, z4.2.2.2⟩, h3.to (mI_o (by omega)) rfl, h4.to (mI_n (by omega)) (mI_n (by omega)) (sI_n (by omega)) (sI_n (by omega)), h5.to (mI_o (by omega)) rfl, h6.to (mI_n (by omega)) (fun o ho => mI_o (by omega)) (sI_n (by omega)) rfl, h7.to rfl rfl, h8.to (mI_n (by omega)) (mI_o (by omega)) (sI_n (by omega)) rfl, ?_, by rw [sI_n (by omega)]; exact h10, h11.to (fun k hk => rfl)⟩
    · have := Nat.mul_le_mul_left cA hj
      have := z4.2.1
      show M.2.2.2.2.1 + cA * j + (64 - (n + 1)) * cB ≤ _
      omega
    · have := Nat.mul_le_mul_left sA' hj
      have := z4.2.2.1
      show M.2.2.2.2.2 + sA' * j + (64 - (n + 1)) * sB' ≤ _
      omega
    · obtain ⟨u, nw, κ, q1, q2, q3, q4, q5, q6, q7, q8⟩ := h9
      refine ⟨u, nw, κ, q1, q2, by rw [mI_n (by omega)]; exact q3, by rw [sI_n (by omega)]; exact q4, by rw [sI_n (by omega)]; exact q5, q6, q7, fun j hj => ?_⟩
      have hk' := (q6 j (by omega)).1
      have hs := sbo_c (2 + κ j)
      exact (q8 j hj).to (by omega) b.2.2 (fun t' ht => mI_o (by omega)) rfl (fun j _ => rfl)
  · exact ⟨h', σ', 0, by simp only [fX0_end, if_neg h0, x_g2, bsm, z2, if_neg hx, b1], by simp only [fX6_end, if_neg h0, z3, if_neg hx, b2], b3⟩
-- feeding (bp_b: of kit/laws/BITS.to-paste)
theorem bp_b (x : Int32) : x.toInt8.toInt32 &&& 255 = x &&& 255 := by
  apply Int32.toBitVec_inj.mp
  rw [Int32.toBitVec_and, Int32.toBitVec_and, Int8.toBitVec_toInt32, Int32.toBitVec_toInt8]
  apply BitVec.eq_of_getLsbD_eq
  intro i hi
  rw [BitVec.getLsbD_and, BitVec.getLsbD_and]
  have hm : ∀ i < 32, 8 ≤ i → (255 : Int32).toBitVec.getLsbD i = false := by decide
  rcases Nat.lt_or_ge i 8 with z | z
  · rw [BitVec.getLsbD_signExtend, BitVec.getLsbD_signExtend, if_pos z, if_pos hi]
    simp only [z, hi, decide_true, Bool.true_and]
  · rw [hm i hi z]; simp
def byB (v : Int32) (j : Nat) : Int32 := vp_nar .byte ((v >>> (nI (24 - 8 * j) &&& 31)).toInt8.toInt32)
theorem byB_o (v : Int32) (j : Nat) : ∃ c, c < 256 ∧ (v >>> (nI (24 - 8 * j) &&& 31)) &&& 255 = nI c ∧ byB v j = (nI c).toInt8.toInt32 := by
  obtain ⟨c, c1, c2⟩ := pk_andE (v >>> (nI (24 - 8 * j) &&& 31)) (m := 255) 8 rfl
  refine ⟨c, c1, c2, ?_⟩
  unfold byB
  rw [pk_vb]
  have e : ((v >>> (nI (24 - 8 * j) &&& 31)).toInt8.toInt32).toInt8.toInt32 = (v >>> (nI (24 - 8 * j) &&& 31)).toInt8.toInt32 := by
    rw [← vp_nar_byte, pk_vb]
  rw [sc_eq e c1, bp_b, c2]
theorem put1 (v : Int32) (fu : Nat) {x : Int32} (hx : ¬ x < 0) (h : M.1 0 2 = nI tp) (ht : tp < 1600) : fX0_put_3 K a (fu + 1) (hp a M) v x = fX0_put_3 K a fu (hp a (mI (mI M 0 2 (nI (tp + 1))) 8 tp (vp_nar .byte ((v >>> (x &&& 31)).toInt8.toInt32)))) v (x + -8) := by
  simp only [fX0_put_3, if_neg hx, x_g1, x_g2, h, bsm, nI_1, x_p2, p_tape ht]
theorem put_ok (v : Int32) (h : M.1 0 2 = nI tp) (ht : tp + 4 ≤ 1600) : ∃ M', fX0_put K (hp a M) a v = some (hp a M') ∧ M'.2 = M.2 ∧ M'.1 0 2 = nI (tp + 4) ∧ (∀ j, j < 4 → M'.1 8 (tp + j) = byB v j) ∧ (∀ o k, ¬ (o = 0 ∧ k = 2) → ¬ (o = 8 ∧ tp ≤ k ∧ k < tp + 4) → M'.1 o k = M.1 o k) := by
  obtain ⟨fu, hf⟩ : ∃ fu, FU = fu + 1 + 1 + 1 + 1 + 1 := ⟨99995, rfl⟩
  refine ⟨mI (mI (mI (mI (mI (mI (mI (mI M 0 2 (nI (tp + 1))) 8 tp (byB v 0)) 0 2 (nI (tp + 1 + 1))) 8 (tp + 1) (byB v 1)) 0 2 (nI (tp + 1 + 1 + 1))) 8 (tp + 1 + 1) (byB v 2)) 0 2 (nI (tp + 1 + 1 + 1 + 1))) 8 (tp + 1 + 1 + 1) (byB v 3), ?_, rfl, ?_, fun j hj => ?_, fun o k h1 h2 => ?_⟩
  · unfold fX0_put
    rw [hf, put1 v _ (by decide) h (by omega), put1 v _ (by decide) (tp := tp + 1) (by rw [mI_n (by omega), mI_s]) (by omega), put1 v _ (by decide) (tp := tp + 1 + 1) (by rw [mI_n (by omega), mI_s]) (by omega), put1 v _ (by decide) (tp := tp + 1 + 1 + 1) (by rw [mI_n (by omega), mI_s]) (by omega)]
    have z : ((24 : Int32) + -8 + -8 + -8 + -8) < 0 := by decide
    simp only [fX0_put_3, if_pos z]
    rfl
  · rw [mI_n (by omega), mI_s]
  · rcases (show j = 0 ∨ j = 1 ∨ j = 2 ∨ j = 3 by omega) with q | q | q | q <;> subst q
    · rw [mI_n (by omega), mI_n (by omega), mI_n (by omega), mI_n (by omega), mI_n (by omega), mI_n (by omega)]
      exact mI_s
    · rw [mI_n (by omega), mI_n (by omega), mI_n (by omega), mI_n (by omega), mI_s]
    · rw [mI_n (by omega), mI_n (by omega), mI_s]
    · rw [mI_s]
  · rw [mI_n (by omega), mI_n (by omega), mI_n (by omega), mI_n (by omega), mI_n (by omega), mI_n (by omega), mI_n (by omega), mI_n (by omega)]
def wdF (x1 x2 x3 x4 x5 : Int32) (j : Nat) : Int32 := if j < 4 then x1 else if j < 8 then x2 else if j < 12 then x3 else if j < 16 then x4 else x5
theorem shF : ∀ j, j < 20 → ((8 : Int32) * ((3 : Int32) - (nI j - nI j / (4 : Int32) * (4 : Int32)))) &&& 31 = nI (24 - 8 * (j % 4)) &&& 31 := by decide +kernel
theorem feedT (x1 x2 x3 x4 x5 : Int32) (h : σ.1 1 = nI tp) (ht : tp + 20 ≤ 1600) : ∃ σ', fX6_feed_28 FU σ x1 x2 x3 x4 x5 0 = some (σ', nI (tp + 20)) ∧ σ'.1 1 = nI (tp + 20) ∧ (∀ k, k ≠ 1 → σ'.1 k = σ.1 k) ∧ σ'.2.1 = σ.2.1 ∧ (∀ k, k ≠ 0 → σ'.2.2.1 k = σ.2.2.1 k) ∧ σ'.2.2.2 = σ.2.2.2 ∧ ∀ j, σ'.2.2.1 0 j = if tp ≤ j ∧ j < tp + 20 then (wdF x1 x2 x3 x4 x5 (j - tp) >>> (nI (24 - 8 * ((j - tp) % 4)) &&& 31)) &&& 255 else σ.2.2.1 0 j := by
  refine lp1z (F := fun n (s : MS) k => fX6_feed_28 n s x1 x2 x3 x4 x5 k) (N := 20) (I := fun q s => s.1 1 = nI (tp + q) ∧ (∀ k, k ≠ 1 → s.1 k = σ.1 k) ∧ s.2.1 = σ.2.1 ∧ (∀ k, k ≠ 0 → s.2.2.1 k = σ.2.2.1 k) ∧ s.2.2.2 = σ.2.2.2 ∧ ∀ j, s.2.2.1 0 j = if tp ≤ j ∧ j < tp + q then (wdF x1 x2 x3 x4 x5 (j - tp) >>> (nI (24 - 8 * ((j - tp) % 4)) &&& 31)) &&& 255 else σ.2.2.1 0 j) (P := fun r => ∃ σ', r = some (σ', nI (tp + 20)) ∧ σ'.1 1 = nI (tp + 20) ∧ (∀ k, k ≠ 1 → σ'.1 k = σ.1 k) ∧ σ'.2.1 = σ.2.1 ∧ (∀ k, k ≠ 0 → σ'.2.2.1 k = σ.2.2.1 k) ∧ σ'.2.2.2 = σ.2.2.2 ∧ ∀ j, σ'.2.2.1 0 j = if tp ≤ j ∧ j < tp + 20 then (wdF x1 x2 x3 x4 x5 (j - tp) >>> (nI (24 - 8 * ((j - tp) % 4)) &&& 31)) &&& 255 else σ.2.2.1 0 j) (by omega) ⟨h, fun _ _ => rfl, rfl, fun _ _ => rfl, rfl, fun j => by rw [if_neg (by omega)]⟩ ?_ ?_
  · rintro n s q hq ⟨i1, i2, i3, i4, i5, i6⟩
    have st : fX6_feed_28 (n + 1) s x1 x2 x3 x4 x5 (nI q) = fX6_feed_81 (fun σ' b1 b2 b3 b4 b5 b6 => fX6_feed_28 n σ' b1 b2 b3 b4 b5 b6) s x1 x2 x3 x4 x5 (nI q) (wdF x1 x2 x3 x4 x5 q) := by
      have k20 : ¬ (20 : Int32) ≤ nI q := nI_ge (b := 20) hq (by omega)
      have kk : ∀ b, b < 100 → (nI b ≤ nI q) = (b ≤ q) := fun b hb => nI_leE (by omega) (by omega)
      simp only [fX6_feed_28, if_neg k20, ki4, ki8, ki12, ki16, kk 4 (by omega), kk 8 (by omega), kk 12 (by omega), kk 16 (by omega), wdF]
      by_cases h4 : q < 4
      · rw [if_neg (by omega), if_pos h4]
      · rw [if_pos (by omega), if_neg h4]
        by_cases h8 : q < 8
        · rw [if_neg (by omega), if_pos h8]
        · rw [if_pos (by omega), if_neg h8]
          by_cases h12 : q < 12
          · rw [if_neg (by omega), if_pos h12]
          · rw [if_pos (by omega), if_neg h12]
            by_cases h16 : q < 16
            · rw [if_neg (by omega), if_pos h16]
            · rw [if_pos (by omega), if_neg h16]
    refine Or.inl ⟨sI (sA s 0 (tp + q) ((wdF x1 x2 x3 x4 x5 q >>> (nI (24 - 8 * (q % 4)) &&& 31)) &&& 255)) 1 (nI (tp + q + 1)), ⟨by rw [sI_s]; rfl, fun k hk => by rw [sI_n hk]; exact i2 k hk, i3, fun k hk => by rw [sI_2, sA_n hk]; exact i4 k hk, i5, fun j => ?_⟩, ?_⟩
    · rw [sI_2, sA_e, i6 j]
      by_cases hj : j = tp + q
      · rw [if_pos hj, if_pos (by omega), hj, Nat.add_sub_cancel_left]
      · rw [if_neg hj]
        by_cases hj2 : tp ≤ j ∧ j < tp + q
        · rw [if_pos hj2, if_pos (by omega)]
        · rw [if_neg hj2, if_neg (by omega)]
    · rw [st]
      simp only [fX6_feed_81, shF q hq, i1, tp0 (i := tp + q) (by omega), bsm, sA_1, nI_1]
  · rintro n s ⟨i1, i2, i3, i4, i5, i6⟩
    have k20 : (20 : Int32) ≤ nI 20 := by decide
    exact ⟨s, by simp only [fX6_feed_28, if_pos k20, i1], i1, i2, i3, i4, i5, i6⟩
theorem ps0 : PS0 K a (IV K a) := by
  intro h σ n x1 x2 x3 x4 x5 hn I
  have I' := I.next
  have hI := I
  obtain ⟨M, nk, nf, np, pt, vl, vf, vm, rfl, X, H, N, E⟩ := I
  have b := X.bk
  obtain ⟨h1, ⟨tp, z1, z2, z3, z4⟩, h3, h4, h5, h6, h7, h8, h9, h10, h11⟩ := E
  have kc : (nI tp + (20 : Int32) ≤ (1600 : Int32)) = (tp + 20 ≤ 1600) := by
    rw [ki20, nI_add, ki1600, nI_leE (by omega) (by omega)]
  by_cases ht : tp + 20 ≤ 1600
  · have ht' : nI tp + (20 : Int32) ≤ (1600 : Int32) := by rw [kc]; exact ht
    obtain ⟨M1, a1, a2, a3, a4, a5⟩ := put_ok (K := K) (a := a) x1 z2 (by omega)
    obtain ⟨M2, b1, b2, b3, b4, b5⟩ := put_ok (K := K) (a := a) x2 a3 (by omega)
    obtain ⟨M3, c1, c2, c3, c4, c5⟩ := put_ok (K := K) (a := a) x3 b3 (by omega)
    obtain ⟨M4, d1, d2, d3, d4, d5⟩ := put_ok (K := K) (a := a) x4 c3 (by omega)
    obtain ⟨M5, e1, e2, e3, e4, e5⟩ := put_ok (K := K) (a := a) x5 d3 (by omega)
    obtain ⟨σ', f1, f2, f3, f4, f5, f6, f7⟩ := feedT x1 x2 x3 x4 x5 z3 ht
    have m2 : M5.2 = M.2 := by rw [e2, d2, c2, b2, a2]
    have fr : ∀ o k, ¬ (o = 0 ∧ k = 2) → ¬ (o = 8 ∧ tp ≤ k ∧ k < tp + 20) → M5.1 o k = M.1 o k := fun o k q1 q2 => by
      rw [e5 o k q1 (by omega), d5 o k q1 (by omega), c5 o k q1 (by omega), b5 o k q1 (by omega), a5 o k q1 (by omega)]
    have fr0 : ∀ o, o ≠ 0 → o ≠ 8 → M5.1 o = M.1 o := fun o q1 q2 => funext fun k => fr o k (by omega) (by omega)
    have by5 : ∀ j, j < 20 → M5.1 8 (tp + j) = byB (wdF x1 x2 x3 x4 x5 j) (j % 4) := fun j hj => by
      unfold wdF
      by_cases q4 : j < 4
      · rw [if_pos q4, Nat.mod_eq_of_lt q4, e5 _ _ (by omega) (by omega), d5 _ _ (by omega) (by omega), c5 _ _ (by omega) (by omega), b5 _ _ (by omega) (by omega), a4 j q4]
      · by_cases q8 : j < 8
        · rw [if_neg q4, if_pos q8, e5 _ _ (by omega) (by omega), d5 _ _ (by omega) (by omega), c5 _ _ (by omega) (by omega), show tp + j = tp + 4 + (j % 4) by omega, b4 _ (by omega)]
        · by_cases q12 : j < 12
          · rw [if_neg q4, if_neg q8, if_pos q12, e5 _ _ (by omega) (by omega), d5 _ _ (by omega) (by omega), show tp + j = tp + 4 + 4 + (j % 4) by omega, c4 _ (by omega)]
          · by_cases q16 : j < 16
            · rw [if_neg q4, if_neg q8, if_neg q12, if_pos q16, e5 _ _ (by omega) (by omega), show tp + j = tp + 4 + 4 + 4 + (j % 4) by omega, d4 _ (by omega)]
            · rw [if_neg q4, if_neg q8, if_neg q12, if_neg q16, show tp + j = tp + 4 + 4 + 4 + 4 + (j % 4) by omega, e4 _ (by omega)]
    have up : UpE σ σ' := ⟨fun k hk => f5 k (by omega), by rw [f6]⟩
    refine ⟨hp a M5, σ', nI (tp + 20), ?_, ?_, M5, nk, nf, np, pt, vl, vf, vm, rfl, X.to ⟨by rw [m2], by rw [m2]⟩ up.up, by rw [m2]; exact H.up up.up, N.nr b.2.2 (fun o h1 h2 => fr0 o (by omega) (by omega)) (by rw [m2]) (f5 54 (by omega)), ?_⟩
    · simp only [fX0_feed, x_g2, z2, bsm, if_pos ht', x_rcv, a1, b1, c1, d1, e1, e3]
    · simp only [fX6_feed, z3, if_pos ht', f1]
    · refine ⟨h1.to (fun o ho => fr0 o (by omega) (by omega)) (fun o _ => by rw [m2]), ⟨tp + 20, ht, by rw [e3], f2, ?_⟩, fun k hk => ?_, h4.to (fr _ _ (by omega) (by omega)) (fr _ _ (by omega) (by omega)) (f3 _ (by omega)) (f3 _ (by omega)), h5.to (fr0 _ (by omega) (by omega)) (f5 _ (by omega)), h6.to (fr _ _ (by omega) (by omega)) (fun o ho => fr0 o (by omega) (by omega)) (f3 _ (by omega)) (f5 _ (by omega)), h7.to (by rw [m2]) (by rw [f4]), h8.to (fr _ _ (by omega) (by omega)) (fr0 _ (by omega) (by omega)) (f3 _ (by omega)) (f5 _ (by omega)), ?_, by rw [f3 60 (by omega)]; exact h10, h11.to (fun k hk => f5 k (by omega))⟩
      · obtain ⟨y1, y2, y3, y4⟩ := z4
        unfold AL
        rw [m2]
        have w1 : (64 - n) * cB = (64 - (n + 1)) * cB + cB := by
          rw [show 64 - n = 64 - (n + 1) + 1 by omega, Nat.succ_mul]
        have w2 : (64 - n) * sB' = (64 - (n + 1)) * sB' + sB' := by
          rw [show 64 - n = 64 - (n + 1) + 1 by omega, Nat.succ_mul]
        have w3 : cA * (tp + 20) = cA * tp + 8000 := by rw [Nat.mul_add]; rfl
        have w4 : sA' * (tp + 20) = sA' * tp + 80000 := by rw [Nat.mul_add]; rfl
        have w5 : cB = 9000 := rfl
        have w6 : sB' = 90000 := rfl
        exact ⟨y1, by omega, by omega, y4⟩
      · by_cases hk2 : tp ≤ k ∧ k < tp + 20
        · obtain ⟨c, q1, q2, q3⟩ := byB_o (wdF x1 x2 x3 x4 x5 (k - tp)) ((k - tp) % 4)
          refine ⟨c, q1, by rw [f7, if_pos hk2, q2], ?_⟩
          have := by5 (k - tp) (by omega)
          rw [show tp + (k - tp) = k by omega] at this
          rw [this, q3]
        · rw [f7, if_neg hk2, fr 8 k (by omega) (by omega)]
          exact h3 k hk
      · obtain ⟨u, nw, κ, q1, q2, q3, q4, q5, q6, q7, q8⟩ := h9
        refine ⟨u, nw, κ, q1, q2, by rw [fr _ _ (by omega) (by omega)]; exact q3, by rw [f3 _ (by omega)]; exact q4, by rw [f3 _ (by omega)]; exact q5, fun j hj => by rw [m2]; exact q6 j hj, q7, fun j hj => ?_⟩
        have hk' := (q6 j (by omega)).1
        have hs := sbo_c (2 + κ j)
        exact (q8 j hj).to (by omega) b.2.2 (fun t' ht => fr0 _ (by omega) (by omega)) (by rw [m2]) (fun j _ => by rw [f5 67 (by omega)])
  · have ht' : ¬ nI tp + (20 : Int32) ≤ (1600 : Int32) := by rw [kc]; exact ht
    obtain ⟨M1, e1, e2, e3⟩ := I'.ref (k := 0) (by omega)
    obtain ⟨t1, t2⟩ := refT (k := 0) (by omega) σ
    have t1' : aI σ 9 (0 : Int32) = some (σ.2.2.1 9 0) := t1
    have t2' : tI σ 9 (0 : Int32) (σ.2.2.1 9 0 + 1) = some (sA σ 9 0 (σ.2.2.1 9 0 + 1)) := t2
    have e2' : fX0_refuses K (hp a M1) a (0 : Int32) = some (hp a (mI M1 15 0 (M1.1 15 0 + 1)), -1) := e2
    refine ⟨_, _, -1, ?_, by simp only [fX6_feed, z3, if_neg ht', t1', bsm, t2'], e3⟩
    have z2' : gI K (hp a M) (some a) 0 2 = some (nI tp) := by rw [x_g2, z2]
    rw [e1] at z2' ⊢
    simp only [fX0_feed, z2', bsm, if_neg ht', x_rcv, e2']
theorem ps10 : PS10 K a (IV K a) := by
  intro h σ n x hn I
  have I' := I.next
  obtain ⟨M, nk, nf, np, pt, vl, vf, vm, rfl, X, H, N, E⟩ := I
  have hN := N
  obtain ⟨hr, π, kp, N1, N2, N3, N4⟩ := N
  have b := X.bk
  have e0 := SameH.refl M
  rcases X.isPers K x with ⟨p, hp', rfl, c1, t1⟩ | ⟨c1, t1⟩
  · obtain ⟨M', σ', v, s1, s2, s3, s4, -⟩ := suggested_ok (K := K) X H (show 0 < 22 by omega) hp' N2
    refine ⟨hp a M', σ', v, by simp only [fX0_suggest, x_rcv, bsm, c1 M e0, if_neg n01, x_g9, s_rcv (show 0 < 22 by omega), s1], by simp only [fX6_suggest, t1, bsm, if_neg n01, s2], M', nk, nf, np, pt, vl, vf, vm, rfl, X.to s3.same s4.up, by rw [s3.same.2]; exact H.up s4.up, hN.nr b.2.2 (fun o _ _ => by rw [s3.1]) (by rw [s3.2.1]) (by rw [s4.1]), E.next.fr b.2.2 (MF.me (i := 0) (by omega) s3.mf) s4.tf.te ?_ ?_⟩
    · exact ⟨π, kp, N3.to (by rw [s3.1]) (by rw [s3.2.1])⟩
    · obtain ⟨π', kp', R⟩ := E.1 1 (by omega)
      exact ⟨π', kp', R.to (by rw [s3.1]) (by rw [s3.2.1])⟩
  · exact ⟨hp a M, σ, -1, by simp only [fX0_suggest, x_rcv, bsm, c1 M e0, if_true], by simp only [fX6_suggest, t1, bsm, if_true], I'⟩
end PFD

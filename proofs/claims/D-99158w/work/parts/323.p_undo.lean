/-! PLAIN LAW, acts are kept and undone -/
set_option maxRecDepth 100000
section PUN
variable {K : KE} {a i j n k f p w m nk nf np hr kp u nw : Nat} {M M0 M' M1 M2 : CM} {σ σ0 σ' σ1 σ2 : MS} {pt : Nat → Nat} {π κ : Nat → Nat} {vl vf vm : Option Nat} {g : Nat → Int32}
theorem divI {n d : Nat} (hn : n < 2 ^ 31) (h0 : 0 < d) (hd : d < 2 ^ 31) : nI n / nI d = nI (n / d) := by
  have hq : n / d ≤ n := Nat.div_le_self n d
  have hne : nI d ≠ -1 := by rw [Ne, nI_eqm hd]; exact id
  apply Int32.toInt_inj.mp
  rw [Int32.toInt_div_of_ne_right _ _ hne, nI_toInt hn, nI_toInt hd, nI_toInt (by omega)]
  exact Int.ofNat_tdiv n d
theorem modI {n d : Nat} (hn : n < 2 ^ 31) (h0 : 0 < d) (hd : d < 2 ^ 31) : nI n - nI n / nI d * nI d = nI (n % d) := by
  have h1 := Nat.div_add_mod n d
  have h2 := Nat.mul_comm d (n / d)
  rw [divI hn h0 hd, nI_mul, nI_sub (by omega)]
  exact congrArg nI (by omega)
/-- the part of the ring and of the kept States -/
def ZV (a : Nat) (M : CM) (σ : MS) (np : Nat) (pt : Nat → Nat) (u nw : Nat) (κ : Nat → Nat) : Prop := u ≤ 20 ∧ nw < 20 ∧ M.1 0 17 = nI u ∧ σ.1 69 = nI nw ∧ (∀ j, j < 20 → κ j < 20 ∧ M.2.2.1 170 j = some (a + sbo (2 + κ j))) ∧ (∀ i j, i < 20 → j < 20 → κ i = κ j → i = j) ∧ ∀ j, j < u → KS a M (2 + κ j) (fun t => σ.2.2.1 67 (257 * rg u nw j + t)) np pt
theorem keepT (h69 : σ.1 69 = nI nw) (hnw : nw < 20) (h68 : σ.1 68 = nI u) (hu : u ≤ 20) : ∃ σ', fX6_keeps σ = some σ' ∧ σ'.1 69 = nI ((nw + 1) % 20) ∧ σ'.1 68 = nI (if 20 ≤ u then u else u + 1) ∧ (∀ k, k ≠ 68 → k ≠ 69 → σ'.1 k = σ.1 k) ∧ σ'.2.1 = σ.2.1 ∧ (∀ k, k ≠ 67 → σ'.2.2.1 k = σ.2.2.1 k) ∧ σ'.2.2.2 = σ.2.2.2 ∧ ∀ j, σ'.2.2.1 67 j = if 257 * ((nw + 1) % 20) ≤ j ∧ j < 257 * ((nw + 1) % 20) + 257 then σ.2.2.1 54 (j - 257 * ((nw + 1) % 20)) else σ.2.2.1 67 j := by
  have hm : (nI nw + 1) - (nI nw + 1) / (20 : Int32) * (20 : Int32) = nI ((nw + 1) % 20) := by
    rw [nI_1]
    exact modI (n := nw + 1) (d := 20) (by omega) (by omega) (by omega)
  obtain ⟨r, hr⟩ : ∃ r, r = (nw + 1) % 20 := ⟨_, rfl⟩
  have hr20 : r < 20 := by omega
  rw [← hr] at hm ⊢
  unfold fX6_keeps
  rw [h69, hm]
  refine lp1z (F := fun n (s : MS) k => fX6_keeps_15 n s k) (N := 257) (x := sI σ 69 (nI r)) (I := fun q s => s.1 69 = nI r ∧ s.1 68 = nI u ∧ (∀ k, k ≠ 69 → s.1 k = σ.1 k) ∧ s.2.1 = σ.2.1 ∧ (∀ k, k ≠ 67 → s.2.2.1 k = σ.2.2.1 k) ∧ s.2.2.2 = σ.2.2.2 ∧ ∀ j, s.2.2.1 67 j = if 257 * r ≤ j ∧ j < 257 * r + q then σ.2.2.1 54 (j - 257 * r) else σ.2.2.1 67 j) (P := fun x => ∃ σ', x = some σ' ∧ σ'.1 69 = nI r ∧ σ'.1 68 = nI (if 20 ≤ u then u else u + 1) ∧ (∀ k, k ≠ 68 → k ≠ 69 → σ'.1 k = σ.1 k) ∧ σ'.2.1 = σ.2.1 ∧ (∀ k, k ≠ 67 → σ'.2.2.1 k = σ.2.2.1 k) ∧ σ'.2.2.2 = σ.2.2.2 ∧ ∀ j, σ'.2.2.1 67 j = if 257 * r ≤ j ∧ j < 257 * r + 257 then σ.2.2.1 54 (j - 257 * r) else σ.2.2.1 67 j) (by omega) ⟨sI_s, by rw [sI_n (by omega)]; exact h68, fun k hk => sI_n hk, rfl, fun _ _ => rfl, rfl, fun j => by rw [if_neg (by omega)]; rfl⟩ ?_ ?_
  · rintro n s q hq ⟨h1, h2, h3, h4, h5, h6, h7⟩
    have kk : ¬ (257 : Int32) ≤ nI q := nI_ge (b := 257) hq (by omega)
    refine Or.inl ⟨sA s 67 (257 * r + q) (σ.2.2.1 54 q), ⟨h1, h2, h3, h4, fun k hk => by rw [sA_n hk]; exact h5 k hk, h6, fun j => ?_⟩, ?_⟩
    · rw [sA_e, h7]
      by_cases e : j = 257 * r + q
      · rw [if_pos e, if_pos (by omega), e, Nat.add_sub_cancel_left]
      · rw [if_neg e]
        by_cases e2 : 257 * r ≤ j ∧ j < 257 * r + q
        · rw [if_pos e2, if_pos (by omega)]
        · rw [if_neg e2, if_neg (by omega)]
    · have kk' : ¬ nI 257 ≤ nI q := kk
      simp only [fX6_keeps_15, if_neg kk', tg54 hq, h5 54 (by omega), bsm, h1, ki257, nI_mul, nI_add, tp67 (i := 257 * r + q) (by omega), nI_1]
  · rintro n s ⟨h1, h2, h3, h4, h5, h6, h7⟩
    have kk : (257 : Int32) ≤ nI 257 := by decide
    by_cases h20 : 20 ≤ u
    · have k20 : (20 : Int32) ≤ nI u := nI_le (a := 20) h20 (by omega)
      refine ⟨s, by simp only [fX6_keeps_15, if_pos kk, h2, if_pos k20], h1, by rw [if_pos h20]; exact h2, fun k _ hk => h3 k hk, h4, h5, h6, h7⟩
    · have k20 : ¬ (20 : Int32) ≤ nI u := nI_ge (b := 20) (by omega) (by omega)
      refine ⟨sI s 68 (nI (u + 1)), by simp only [fX6_keeps_15, if_pos kk, h2, if_neg k20, nI_1], by rw [sI_n (by omega)]; exact h1, by rw [sI_s, if_neg h20], fun k hk1 hk2 => by rw [sI_n hk1]; exact h3 k hk2, h4, h5, h6, h7⟩
/-- what keeping leaves as it was -/
def MK (M M' : CM) : Prop := (∀ o k, o < 171 ∨ 1351 ≤ o → ¬ (o = 0 ∧ k = 17) → M'.1 o k = M.1 o k) ∧ (∀ o, o < 171 ∨ 1351 ≤ o → M'.2.1 o = M.2.1 o) ∧ (∀ o, o < 170 ∨ 1351 ≤ o → M'.2.2.1 o = M.2.2.1 o) ∧ M'.2.2.2 = M.2.2.2
theorem keep62 (hn : np ≤ 5) (S : SR M 0 (σ.2.2.1 54) np pt hr) (h9 : hr ≤ 23999 ∧ pt 9 = 0) (R0 : RS a M 0 π kp) (KR0 : KR M 0 (σ.2.2.1 54) π kp) (hA : RA a M) (Z : ZV a M σ np pt u nw κ) (hu : u < 20) (h67 : ∀ j, σ'.2.2.1 67 j = if 257 * ((nw + 1) % 20) ≤ j ∧ j < 257 * ((nw + 1) % 20) + 257 then σ.2.2.1 54 (j - 257 * ((nw + 1) % 20)) else σ.2.2.1 67 j) (h69 : σ'.1 69 = nI ((nw + 1) % 20)) : ∃ M', fX0_keeps_62 K a (hp a M) = some (hp a M') ∧ MK M M' ∧ M'.2.2.1 170 = M.2.2.1 170 ∧ RA a M' ∧ ZV a M' σ' np pt (u + 1) ((nw + 1) % 20) κ := by
  obtain ⟨z1, z2, z3, z4, z5, z6, z7⟩ := Z
  obtain ⟨k1, k2⟩ := z5 u hu
  have hi : 2 + κ u < 22 := by omega
  obtain ⟨πi, kpi, Ri⟩ := hA (2 + κ u) hi
  obtain ⟨M1, c1, c2, c3, c4⟩ := copy_ok (K := K) (j := 0) hi (by omega) (by omega) Ri R0
  have hs := sbo_c (2 + κ u)
  have hs0 : sbo 0 = 16 := rfl
  have fI : ∀ o, (o < sbo (2 + κ u) ∨ sbo (2 + κ u) + 59 ≤ o) → M1.1 o = M.1 o := fun o h => c2.1.1 o h
  have e17 : M1.1 0 17 = nI u := by rw [fI 0 (by omega)]; exact z3
  refine ⟨mI M1 0 17 (nI (u + 1)), ?_, ⟨fun o k h1 h2 => ?_, fun o h1 => ?_, fun o h1 => by rw [mI_2, c2.2.1], by rw [mI_2, c2.2.1]⟩, by rw [mI_2, c2.2.1], fun i hi' => ?_, ⟨by omega, by omega, mI_s, h69, fun j hj => by rw [mI_2, c2.2.1]; exact z5 j hj, z6, fun j hj => ?_⟩⟩
  · simp only [fX0_keeps_62, x_g16, x_g17, z3, bsm, c_kept hu, k2, x_g9, s_rcv hi, c1, e17, nI_1, x_p17]
  · rw [mI_n (by omega), fI o (by omega)]
  · rw [mI_2]
    by_cases h12 : o = 12
    · rw [h12]; exact c2.2.2.1
    · exact c2.1.2.1 o (by omega) h12
  · obtain ⟨π', kp', R'⟩ := hA i hi'
    by_cases e : i = 2 + κ u
    · subst e
      exact ⟨πi, kp, c3.to (by rw [mI_n (by omega)]) rfl⟩
    · have hs' := sbo_c i
      exact ⟨π', kp', R'.to (by rw [mI_n (by omega), fI _ (by omega)]) (by rw [mI_2, c2.2.1])⟩
  · have hkj := (z5 j (by omega)).1
    by_cases e : j = u
    · subst e
      have e1 : rg (j + 1) ((nw + 1) % 20) j = (nw + 1) % 20 := by unfold rg; omega
      rw [e1]
      refine ⟨hr, πi, kp, h9, (S.cp c2 hn).m (fun t ht => by rw [mI_o (by omega)]) (fun t ht => ?_) hn, c3.to (by rw [mI_n (by omega)]) rfl, ?_, fun k t hk ht => ?_⟩
      · rw [h67, if_pos (by omega), Nat.add_sub_cancel_left]
      · show σ'.2.2.1 67 (257 * ((nw + 1) % 20) + 96) = nI kp
        rw [h67, if_pos (by omega), Nat.add_sub_cancel_left]
        exact KR0.1
      · have hr40 := R0.1
        show _ = σ'.2.2.1 67 (257 * ((nw + 1) % 20) + (97 + 4 * k + t))
        rw [mI_n (by omega), c4 k t hk ht, h67, if_pos (by omega), Nat.add_sub_cancel_left]
        exact KR0.2 k t hk ht
    · have e1 : rg (u + 1) ((nw + 1) % 20) j = rg u nw j := by unfold rg; omega
      have e2 : rg u nw j ≠ (nw + 1) % 20 := by unfold rg; omega
      have e3 : rg u nw j < 20 := by unfold rg; omega
      have hne : κ j ≠ κ u := fun q => e (z6 j u (by omega) hu q)
      have hs' := sbo_c (2 + κ j)
      rw [e1]
      exact (z7 j (by omega)).to (by omega) hn (fun t ht => by rw [mI_o (by omega), fI _ (by omega)]) (by rw [mI_2, c2.2.1]) (fun t ht => by rw [h67, if_neg (by omega)])
theorem rotK (hA : RA a M) (Z : ZV a M σ np pt 20 nw κ) (hn : np ≤ 5) : ∃ M1, fX0_keeps_18 K a FU (hp a M) (M.2.2.1 170 0) 1 = fX0_keeps_62 K a (hp a M1) ∧ MK M M1 ∧ (∀ o, o ≠ 0 → M1.1 o = M.1 o) ∧ (∀ o, o ≠ 170 → M1.2.2.1 o = M.2.2.1 o) ∧ ZV a M1 σ np pt 19 nw (fun k => if k + 1 < 20 then κ (k + 1) else κ 0) := by
  obtain ⟨z1, z2, z3, z4, z5, z6, z7⟩ := Z
  refine lpR (F := fun n (h : HS) k => fX0_keeps_18 K a n h (M.2.2.1 170 0) k) (N := 20)
    (I := fun k h => ∃ M', h = hp a M' ∧ M'.1 = M.1 ∧ M'.2.1 = M.2.1 ∧ (∀ o, o ≠ 170 → M'.2.2.1 o = M.2.2.1 o) ∧ M'.2.2.2 = M.2.2.2 ∧ 1 ≤ k ∧ ∀ j, j < 20 → M'.2.2.1 170 j = if j + 1 < k then M.2.2.1 170 (j + 1) else M.2.2.1 170 j)
    (P := fun r => ∃ M1, r = fX0_keeps_62 K a (hp a M1) ∧ MK M M1 ∧ (∀ o, o ≠ 0 → M1.1 o = M.1 o) ∧ (∀ o, o ≠ 170 → M1.2.2.1 o = M.2.2.1 o) ∧ ZV a M1 σ np pt 19 nw (fun k => if k + 1 < 20 then κ (k + 1) else κ 0)) ?_ ?_ 19 1 (by omega) FU (hp a M) (FU_lt (by omega)) ⟨M, rfl, rfl, rfl, fun _ _ => rfl, rfl, by omega, fun j hj => by rw [if_neg (by omega)]⟩
  · rintro n h k hk ⟨M', rfl, e1, e2, e3, e4, e5, e6⟩
    refine Or.inl ⟨_, ⟨mR M' 170 (k - 1) (some (a + sbo (2 + κ k))), rfl, e1, e2, fun o q => by rw [mR_o q]; exact e3 o q, e4, by omega, fun j hj => ?_⟩, ?_⟩
    · rw [mR_3, e6 j hj]
      by_cases hj2 : j = k - 1
      · rw [if_pos ⟨rfl, hj2⟩, if_pos (by omega), show j + 1 = k by omega, (z5 k hk).2]
      · rw [if_neg (by omega)]
        by_cases hj3 : j + 1 < k
        · rw [if_pos hj3, if_pos (by omega)]
        · rw [if_neg hj3, if_neg (by omega)]
    · have v8 : cR K (hp a M') (some (a + 170)) 7 (nI k) = some (some (a + sbo (2 + κ k))) := by
        rw [c_kept hk, e6 k hk, if_neg (by omega), (z5 k hk).2]
      have kk : ¬ (20 : Int32) ≤ nI k := nI_ge (b := 20) hk (by omega)
      have hk2 := (z5 k hk).1
      simp only [fX0_keeps_18, if_neg kk, x_g16, bsm, v8, nI_m1 (show 0 < k by omega), p_kept (show k - 1 < 20 by omega) (show 2 + κ k < 22 by omega), nI_1]
  · rintro n h ⟨M', rfl, e1, e2, e3, e4, e5, e6⟩
    have h0 := z5 0 (by omega)
    refine ⟨mI (mR M' 170 19 (some (a + sbo (2 + κ 0)))) 0 17 (nI 19), ?_, ⟨fun o k _ h2 => ?_, fun o _ => ?_, fun o h1 => ?_, e4⟩, fun o ho => ?_, fun o ho => ?_, ⟨by omega, z2, mI_s, z4, fun j hj => ⟨?_, ?_⟩, fun i j hi hj q => ?_, fun j hj => ?_⟩⟩
    · have kk : (20 : Int32) ≤ nI 20 := by decide
      have v4 : (mR M' 170 19 (some (a + sbo (2 + κ 0)))).1 0 17 = nI 20 := by rw [mR_1, e1]; exact z3
      simp only [fX0_keeps_18, if_pos kk, x_g16, bsm, h0.2, show (19 : Int32) = nI 19 from rfl, p_kept (show 19 < 20 by omega) (show 2 + κ 0 < 22 by omega), x_g17, v4, nI_m1 (show 0 < 20 by omega), x_p17]
    · rw [mI_n (by omega), mR_1, e1]
    · rw [mI_2, mR_2, e2]
    · rw [mI_2, mR_o (by omega)]
      exact e3 o (by omega)
    · rw [mI_o ho, mR_1, e1]
    · rw [mI_2, mR_o ho]
      exact e3 o ho
    · dsimp only
      split
      · exact (z5 _ (by omega)).1
      · exact (z5 _ (by omega)).1
    · show (mR M' 170 19 (some (a + sbo (2 + κ 0)))).2.2.1 170 j = some (a + sbo (2 + (if j + 1 < 20 then κ (j + 1) else κ 0)))
      rw [mR_3]
      by_cases hj2 : j = 19
      · rw [if_pos ⟨rfl, hj2⟩, if_neg (by omega)]
      · rw [if_neg (by omega), e6 j hj, if_pos (by omega), if_pos (by omega), (z5 (j + 1) (by omega)).2]
    · dsimp only at q
      split at q
      · split at q
        · have := z6 _ _ (by omega) (by omega) q; omega
        · have := z6 _ _ (by omega) (by omega) q; omega
      · split at q
        · have := z6 _ _ (by omega) (by omega) q; omega
        · omega
    · dsimp only
      rw [if_pos (by omega)]
      have e : rg 19 nw j = rg 20 nw (j + 1) := by unfold rg; omega
      rw [e]
      have hk := (z5 (j + 1) (by omega)).1
      have hs := sbo_c (2 + κ (j + 1))
      refine (z7 (j + 1) (by omega)).to (by omega) hn (fun t ht => by rw [mI_o (by omega), mR_1, e1]) ?_ (fun _ _ => rfl)
      rw [mI_2, mR_o (by omega)]
      exact e3 _ (by omega)
theorem MK.tr (h : MK M M1) (g : MK M1 M2) : MK M M2 := ⟨fun o k q r => (g.1 o k q r).trans (h.1 o k q r), fun o q => (g.2.1 o q).trans (h.2.1 o q), fun o q => (g.2.2.1 o q).trans (h.2.2.1 o q), g.2.2.2.trans h.2.2.2⟩
theorem keeps_ok (X : HX a M σ nk nf np pt vl vf vm) (H : HTs K a M.2.2.2.1 σ vl vf vm) (h9 : hr ≤ 23999 ∧ pt 9 = 0) (S : SR M 0 (σ.2.2.1 54) np pt hr) (R0 : RS a M 0 π kp) (KR0 : KR M 0 (σ.2.2.1 54) π kp) (E : RE K a M σ n nf np pt) : ∃ M' σ', fX0_keeps K (hp a M) a = some (hp a M') ∧ fX6_keeps σ = some σ' ∧ HX a M' σ' nk nf np pt vl vf vm ∧ HTs K a M'.2.2.2.1 σ' vl vf vm ∧ SR M' 0 (σ'.2.2.1 54) np pt hr ∧ RS a M' 0 π kp ∧ KR M' 0 (σ'.2.2.1 54) π kp ∧ RE K a M' σ' n nf np pt := by
  have b := X.bk
  obtain ⟨h1, h2, h3, h4, h5, h6, h7, h8, ⟨u, nw, κ, q1, q2, q3, q4, q5, q6, q7, q8⟩, h10, h11⟩ := E
  obtain ⟨σ', t1, t2, t3, t4, t5, t6, t7, t8⟩ := keepT q5 q2 q4 q1
  have key : ∃ M' κ', fX0_keeps K (hp a M) a = some (hp a M') ∧ MK M M' ∧ RA a M' ∧ ZV a M' σ' np pt (if 20 ≤ u then u else u + 1) ((nw + 1) % 20) κ' := by
    by_cases h20 : u = 20
    · subst h20
      obtain ⟨M1, r1, r2, r3, r4, r5⟩ := rotK (K := K) (a := a) h1 ⟨q1, q2, q3, q5, q6, q7, q8⟩ b.2.2
      have S1 : SR M1 0 (σ.2.2.1 54) np pt hr := S.m (fun t ht => r3 _ (by show 16 + t ≠ 0; omega)) (fun _ _ => rfl) b.2.2
      have R1 : RS a M1 0 π kp := R0.to (by rw [r3 _ (by show 16 ≠ 0; omega)]) (r4 _ (by show 16 + 16 ≠ 170; omega))
      have K1 : KR M1 0 (σ.2.2.1 54) π kp := ⟨KR0.1, fun k j hk hj => by rw [r3 _ (by show 16 + _ ≠ 0; omega)]; exact KR0.2 k j hk hj⟩
      have A1 : RA a M1 := fun i hi => by
        obtain ⟨π', kp', R'⟩ := h1 i hi
        have hs := sbo_c i
        exact ⟨π', kp', R'.to (by rw [r3 _ (by omega)]) (r4 _ (by omega))⟩
      obtain ⟨M', s1, s2, s3, s4, s5⟩ := keep62 (K := K) b.2.2 S1 h9 R1 K1 A1 r5 (by omega) t8 t2
      refine ⟨M', _, ?_, r2.tr s2, s4, by rw [if_pos (by omega)]; exact s5⟩
      have kk : nI 20 = (20 : Int32) := rfl
      simp only [fX0_keeps, x_g17, q3, bsm, if_pos kk, x_g16, show (0 : Int32) = nI 0 from rfl, c_kept (show 0 < 20 by omega), r1, s1]
    · obtain ⟨M', s1, s2, s3, s4, s5⟩ := keep62 (K := K) b.2.2 S h9 R0 KR0 h1 ⟨q1, q2, q3, q5, q6, q7, q8⟩ (by omega) t8 t2
      refine ⟨M', κ, ?_, s2, s4, by rw [if_neg (by omega)]; exact s5⟩
      have kk : ¬ nI u = (20 : Int32) := by rw [ki20, nI_eqE (by omega) (by omega)]; exact h20
      simp only [fX0_keeps, x_g17, q3, bsm, if_neg kk, s1]
  obtain ⟨M', κ', k1, k2, k3, k4⟩ := key
  obtain ⟨v1, v2, v3, v5, v6, v7, v8⟩ := k4
  have up : UpE σ σ' := ⟨fun k hk => t6 k (by omega), by rw [t7]⟩
  have sm : SameH M M' := ⟨by rw [k2.2.2.1 0 (by omega)], by rw [k2.2.2.2]⟩
  have f0 : ∀ o, 0 < o → o < 171 ∨ 1351 ≤ o → M'.1 o = M.1 o := fun o h1 h2 => funext fun k => k2.1 o k h2 (by omega)
  refine ⟨M', σ', k1, t1, X.to sm up.up, by rw [sm.2]; exact H.up up.up, S.m (fun t ht => f0 _ (by show 0 < 16 + t; omega) (by show 16 + t < 171 ∨ _; omega)) (fun j _ => by rw [t6 54 (by omega)]) b.2.2, R0.to (by rw [f0 _ (by show 0 < 16; omega) (by show 16 < 171 ∨ _; omega)]) (k2.2.2.1 _ (by show 16 + 16 < 170 ∨ _; omega)), ⟨by rw [t6 54 (by omega)]; exact KR0.1, fun k j hk hj => ?_⟩, ?_⟩
  · have := (R0.2.2.1 k (by have := R0.1; omega)).1
    rw [f0 _ (by show 0 < 16 + _; omega) (by show 16 + _ < 171 ∨ _; omega), t6 54 (by omega)]
    exact KR0.2 k j hk hj
  · exact ⟨k3, h2.to (k2.1 _ _ (by omega) (by omega)) k2.2.2.2 (t4 _ (by omega) (by omega)), h3.to (f0 _ (by omega) (by omega)) (t6 _ (by omega)), h4.to (k2.1 _ _ (by omega) (by omega)) (k2.1 _ _ (by omega) (by omega)) (t4 _ (by omega) (by omega)) (t4 _ (by omega) (by omega)), h5.to (f0 _ (by omega) (by omega)) (t6 _ (by omega)), h6.to (k2.1 _ _ (by omega) (by omega)) (fun o ho => f0 o (by omega) (by omega)) (t4 _ (by omega) (by omega)) (t6 _ (by omega)), h7.to (by rw [k2.2.1 0 (by omega)]) (by rw [t5]), h8.to (k2.1 _ _ (by omega) (by omega)) (f0 _ (by omega) (by omega)) (t4 _ (by omega) (by omega)) (t6 _ (by omega)), ⟨_, _, κ', v1, v2, v3, t3, v5, v6, v7, v8⟩, by rw [t4 60 (by omega) (by omega)]; exact h10, h11.to (fun k hk => t6 k (by omega))⟩
theorem undoT (h69 : σ.1 69 = nI nw) (hnw : nw < 20) (h68 : σ.1 68 = nI u) (hu : u ≤ 20) (hu0 : 0 < u) : ∃ σ', fX6_undo_21 FU σ 0 = some (σ', 1) ∧ σ'.1 69 = nI ((nw + 19) % 20) ∧ σ'.1 68 = nI (u - 1) ∧ (∀ k, k ≠ 68 → k ≠ 69 → σ'.1 k = σ.1 k) ∧ σ'.2.1 = σ.2.1 ∧ (∀ k, k ≠ 54 → σ'.2.2.1 k = σ.2.2.1 k) ∧ σ'.2.2.2 = σ.2.2.2 ∧ ∀ j, j < 257 → σ'.2.2.1 54 j = σ.2.2.1 67 (257 * nw + j) := by
  refine lp1z (F := fun n (s : MS) k => fX6_undo_21 n s k) (N := 257) (I := fun q s => s.1 = σ.1 ∧ s.2.1 = σ.2.1 ∧ (∀ k, k ≠ 54 → s.2.2.1 k = σ.2.2.1 k) ∧ s.2.2.2 = σ.2.2.2 ∧ ∀ j, j < q → s.2.2.1 54 j = σ.2.2.1 67 (257 * nw + j)) (P := fun x => ∃ σ', x = some (σ', 1) ∧ σ'.1 69 = nI ((nw + 19) % 20) ∧ σ'.1 68 = nI (u - 1) ∧ (∀ k, k ≠ 68 → k ≠ 69 → σ'.1 k = σ.1 k) ∧ σ'.2.1 = σ.2.1 ∧ (∀ k, k ≠ 54 → σ'.2.2.1 k = σ.2.2.1 k) ∧ σ'.2.2.2 = σ.2.2.2 ∧ ∀ j, j < 257 → σ'.2.2.1 54 j = σ.2.2.1 67 (257 * nw + j)) (by omega) ⟨rfl, rfl, fun _ _ => rfl, rfl, fun j hj => absurd hj (by omega)⟩ ?_ ?_
  · rintro n s q hq ⟨h1, h2, h3, h4, h5⟩
    have kk : ¬ (257 : Int32) ≤ nI q := nI_ge (b := 257) hq (by omega)
    refine Or.inl ⟨sA s 54 q (σ.2.2.1 67 (257 * nw + q)), ⟨h1, h2, fun k hk => by rw [sA_n hk]; exact h3 k hk, h4, fun j hj => ?_⟩, ?_⟩
    · rw [sA_e]
      by_cases e : j = q
      · rw [if_pos e, e]
      · rw [if_neg e]
        exact h5 j (by omega)
    · have kk' : ¬ nI 257 ≤ nI q := kk
      simp only [fX6_undo_21, if_neg kk', h1, h69, ki257, nI_mul, nI_add, tg67 (i := 257 * nw + q) (by omega), h3 67 (by omega), bsm, tp54 hq, nI_1]
  · rintro n s ⟨h1, h2, h3, h4, h5⟩
    have kk : (257 : Int32) ≤ nI 257 := by decide
    have e1 : nI nw + (20 : Int32) - 1 = nI (nw + 19) := by
      rw [ki20, nI_add, nI_m1 (by omega)]
      exact congrArg nI (by omega)
    have hm : nI (nw + 19) - nI (nw + 19) / (20 : Int32) * (20 : Int32) = nI ((nw + 19) % 20) := modI (n := nw + 19) (d := 20) (by omega) (by omega) (by omega)
    refine ⟨sI (sI s 69 (nI ((nw + 19) % 20))) 68 (nI (u - 1)), ?_, by rw [sI_n (by omega), sI_s], by rw [sI_s], fun k hk1 hk2 => by rw [sI_n hk1, sI_n hk2, h1], h2, h3, h4, h5⟩
    simp only [fX6_undo_21, if_pos kk, h1, h69, e1, hm, sI_n (show 68 ≠ 69 by omega), h68, nI_m1 hu0]
theorem ps28 : PS28 K a (IV K a) := by
  intro h σ n hn I
  have I' := I.next
  have hI := I
  obtain ⟨M, nk, nf, np, pt, vl, vf, vm, rfl, X, H, N, E⟩ := I
  have b := X.bk
  obtain ⟨h1, h2, h3, h4, h5, h6, h7, h8, ⟨u, nw, κ, q1, q2, q3, q4, q5, q6, q7, q8⟩, h10, h11⟩ := E.next
  by_cases h0 : u = 0
  · have u0 : nI u = 0 := by rw [h0]; rfl
    obtain ⟨M1, e1, e2, e3⟩ := I'.ref (k := 4) (by omega)
    obtain ⟨t1, t2⟩ := refT (k := 4) (by omega) σ
    have t1' : aI σ 9 (4 : Int32) = some (σ.2.2.1 9 4) := t1
    have t2' : tI σ 9 (4 : Int32) (σ.2.2.1 9 4 + 1) = some (sA σ 9 4 (σ.2.2.1 9 4 + 1)) := t2
    have e2' : fX0_refuses K (hp a M1) a (4 : Int32) = some (hp a (mI M1 15 4 (M1.1 15 4 + 1)), -1) := e2
    have q3' : gI K (hp a M) (some a) 0 17 = some (nI u) := by rw [x_g17, q3]
    refine ⟨_, _, 0, ?_, by simp only [fX6_undo, q4, if_pos u0, t1', bsm, t2'], e3⟩
    rw [e1] at q3' ⊢
    simp only [fX0_undo, q3', bsm, if_pos u0, x_rcv, e2', if_pos (show (-1 : Int32) < 0 by decide)]
  · have u0 : ¬ nI u = 0 := by rw [nI_eq0 (by omega)]; exact h0
    obtain ⟨σ', t1, t2, t3, t4, t5, t6, t7, t8⟩ := undoT q5 q2 q4 q1 (by omega)
    obtain ⟨k1, k2⟩ := q6 (u - 1) (by omega)
    have hj : 2 + κ (u - 1) < 22 := by omega
    obtain ⟨hr, π', kp', r1, r2, r3, r4⟩ := q8 (u - 1) (by omega)
    have er : rg u nw (u - 1) = nw := by unfold rg; omega
    rw [er] at r2 r4
    obtain ⟨π0, kp0, R0⟩ := h1 0 (by omega)
    have hs := sbo_c (2 + κ (u - 1))
    have hs0 : sbo 0 = 16 := rfl
    have f0 : ∀ o, 0 < o → (mI M 0 17 (nI (u - 1))).1 o = M.1 o := fun o h => mI_o (by omega)
    have R0' : RS a (mI M 0 17 (nI (u - 1))) 0 π0 kp0 := R0.to (by rw [f0 _ (by omega)]) rfl
    have r3' : RS a (mI M 0 17 (nI (u - 1))) (2 + κ (u - 1)) π' kp' := r3.to (by rw [f0 _ (by omega)]) rfl
    obtain ⟨M1, c1, c2, c3, c4⟩ := copy_ok (K := K) (i := 0) (j := 2 + κ (u - 1)) (by omega) hj (by omega) R0' r3'
    have up : UpE σ σ' := ⟨fun k hk => t6 k (by omega), by rw [t7]⟩
    have fr : ∀ o, 0 < o → (o < 16 ∨ 75 ≤ o) → M1.1 o = M.1 o := fun o h1 h2 => by rw [c2.1.1 o (by omega), f0 o h1]
    have fr0 : ∀ k, k ≠ 17 → M1.1 0 k = M.1 0 k := fun k hk => by rw [c2.1.1 0 (by omega), mI_n (Or.inr hk)]
    have e17 : M1.1 0 17 = nI (u - 1) := by rw [c2.1.1 0 (by omega), mI_s]
    have m22 : M1.2.2 = M.2.2 := by rw [c2.2.1]; rfl
    have mL' : ∀ o, (o < 16 ∨ 75 ≤ o) → M1.2.1 o = M.2.1 o := fun o h => by
      by_cases h12 : o = 12
      · rw [h12]; exact c2.2.2.1
      · rw [c2.1.2.1 o (by omega) h12]; rfl
    have r2' : SR (mI M 0 17 (nI (u - 1))) (2 + κ (u - 1)) (fun t => σ.2.2.1 67 (257 * nw + t)) np pt hr := r2.m (fun t ht => f0 _ (by omega)) (fun _ _ => rfl) b.2.2
    refine ⟨hp a M1, σ', 1, ?_, by simp only [fX6_undo, q4, if_neg u0, t1], M1, nk, nf, np, pt, vl, vf, vm, rfl, X.to ⟨by rw [m22], by rw [m22]⟩ up.up, by rw [m22]; exact H.up up.up, ⟨hr, π0, kp', r1, (r2'.cp c2 b.2.2).m (fun _ _ => rfl) (fun j hj => t8 j (by omega)) b.2.2, c3, by rw [t8 96 (by omega)]; exact r4.1, fun k j hk hj => ?_⟩, ?_⟩
    · simp only [fX0_undo, x_g17, q3, bsm, if_neg u0, nI_m1 (show 0 < u by omega), x_p17, x_g9, x_g16, mI_s, c_kept (show u - 1 < 20 by omega), mI_2, k2, s_rcv (show 0 < 22 by omega), c1]
    · have h40 := r3.1
      rw [c4 k j hk hj, f0 _ (by omega), t8 _ (by omega)]
      exact r4.2 k j hk hj
    · refine ⟨fun i hi => ?_, h2.to (fr0 _ (by omega)) (by rw [m22]) (t4 _ (by omega) (by omega)), h3.to (fr _ (by omega) (by omega)) (t6 _ (by omega)), h4.to (fr0 _ (by omega)) (fr0 _ (by omega)) (t4 _ (by omega) (by omega)) (t4 _ (by omega) (by omega)), h5.to (fr _ (by omega) (by omega)) (t6 _ (by omega)), h6.to (fr0 _ (by omega)) (fun o ho => fr o (by omega) (by omega)) (t4 _ (by omega) (by omega)) (t6 _ (by omega)), h7.to (by rw [mL' 0 (by omega)]) (by rw [t5]), h8.to (fr0 _ (by omega)) (fr _ (by omega) (by omega)) (t4 _ (by omega) (by omega)) (t6 _ (by omega)), ⟨u - 1, (nw + 19) % 20, κ, by omega, by omega, e17, t3, t2, fun j hj => by rw [m22]; exact q6 j hj, q7, fun j hj => ?_⟩, by rw [t4 60 (by omega) (by omega)]; exact h10, h11.to (fun k hk => t6 k (by omega))⟩
      · by_cases e : i = 0
        · rw [e]; exact ⟨_, _, c3⟩
        · obtain ⟨π2, kp2, R2⟩ := h1 i hi
          have hs2 := sbo_c i
          exact ⟨π2, kp2, R2.to (by rw [fr _ (by omega) (by omega)]) (by rw [m22])⟩
      · have e1 : rg (u - 1) ((nw + 19) % 20) j = rg u nw j := by unfold rg; omega
        have hk := (q6 j (by omega)).1
        have hs2 := sbo_c (2 + κ j)
        rw [e1]
        exact (q8 j (by omega)).to (by omega) b.2.2 (fun t ht => fr _ (by omega) (by omega)) (by rw [m22]) (fun t _ => by rw [t6 67 (by omega)])
end PUN

/-! PLAIN LAW, the image is written -/
set_option maxRecDepth 100000
def OU (M M' : CM) (σ σ' : MS) (k : Nat) : Prop := M'.1 0 21 = nI k ∧ σ'.1 102 = nI k ∧ (∀ j, j < k → ∃ c, c < 256 ∧ σ'.2.2.1 101 j = nI c ∧ M'.1 1351 j &&& 255 = nI c) ∧ M'.2 = M.2 ∧ (∀ o, o ≠ 0 → o ≠ 1351 → M'.1 o = M.1 o) ∧ (∀ j, j ≠ 21 → M'.1 0 j = M.1 0 j) ∧ (∀ j, j ≠ 102 → σ'.1 j = σ.1 j) ∧ σ'.2.1 = σ.2.1 ∧ σ'.2.2.2 = σ.2.2.2 ∧ (∀ j, j ≠ 101 → σ'.2.2.1 j = σ.2.2.1 j)
theorem byB_c (v : Int32) (j : Nat) {c : Nat} (h : (v >>> (nI (24 - 8 * j) &&& 31)) &&& 255 = nI c) : byB v j &&& 255 = nI c := by
  obtain ⟨c', c1, c2, c3⟩ := byB_o v j
  rw [c3, byte_o c' c1, ← c2, h]
section PIM
variable {K : KE} {a i n k f p m nk nf np hr tp r j w c : Nat} {M M' : CM} {σ σ' : MS} {pt : Nat → Nat} {vl vf vm : Option Nat}
theorem OU.put (O : OU M M' σ σ' k) {b : Int32} (hc : c < 256) (h : b &&& 255 = nI c) : OU M (mI (mI M' 0 21 (nI (k + 1))) 1351 k b) σ (sI (sA σ' 101 k (nI c)) 102 (nI (k + 1))) (k + 1) := by
  obtain ⟨o1, o2, o3, o4, o5, o6, o7, o8, o9, o10⟩ := O
  refine ⟨by rw [mI_n (by omega), mI_s], sI_s, fun j hj => ?_, o4, fun o h0 h1 => by rw [mI_o h1, mI_o h0]; exact o5 o h0 h1, fun j hj => by rw [mI_n (by omega), mI_n (Or.inr hj)]; exact o6 j hj, fun j hj => by rw [sI_n hj]; exact o7 j hj, o8, o9, fun j hj => by show (sA σ' 101 k (nI c)).2.2.1 j = _; rw [sA_n hj]; exact o10 j hj⟩
  by_cases e : j = k
  · subst e
    exact ⟨c, hc, sA_s, by rw [mI_s]; exact h⟩
  · obtain ⟨c', c1, c2, c3⟩ := o3 j (by omega)
    refine ⟨c', c1, ?_, ?_⟩
    · show (sA σ' 101 k (nI c)).2.2.1 101 j = _
      rw [sA_m e]; exact c2
    · rw [mI_n (Or.inr e), mI_n (by omega)]; exact c3
theorem wr1 (v : Int32) (fu : Nat) {x : Int32} (hx : ¬ x < 0) (h : M.1 0 21 = nI k) (hk : k < 139) : fX0_writes_8 K a (fu + 1) (hp a M) v x = fX0_writes_8 K a fu (hp a (mI (mI M 0 21 (nI (k + 1))) 1351 k (vp_nar .byte ((v >>> (x &&& 31)).toInt8.toInt32)))) v (x + -8) := by
  simp only [fX0_writes_8, if_neg hx, x_g20, x_g21, h, bsm, nI_1, x_p21, p_out hk]
theorem OU.w1 (O : OU M M' σ σ' k) (hk : k < 139) (hc : c < 256) : ∃ M'' σ'', fX0_writes K (hp a M') a (nI c) 1 = some (hp a M'') ∧ fX6_writes σ' (nI c) = some σ'' ∧ OU M M'' σ σ'' (k + 1) := by
  have e : (nI c >>> (nI (24 - 8 * 3) &&& 31)) &&& 255 = nI c := by
    rw [pk_shrN (by omega) _ 0 (bit_sm 0 (by omega)), pk_andN (by omega) 8 rfl]
    exact congrArg nI (by omega)
  refine ⟨mI (mI M' 0 21 (nI (k + 1))) 1351 k (byB (nI c) 3), _, ?_, ?_, O.put hc (byB_c _ 3 e)⟩
  · obtain ⟨fu, hf⟩ : ∃ fu, FU = fu + 1 + 1 := ⟨99998, rfl⟩
    unfold fX0_writes
    rw [hf, show (8 : Int32) * 1 - 8 = 0 by decide, wr1 (nI c) (fu + 1) (by decide) O.1 hk]
    show fX0_writes_8 K a (fu + 1) _ (nI c) (0 + -8) = _
    simp only [fX0_writes_8, if_pos (show (0 + -8 : Int32) < 0 by decide)]
    rfl
  · have e2 : (sA σ' 101 k (nI c)).1 102 = nI k := O.2.1
    simp only [fX6_writes, O.2.1, tp101 hk, bsm, e2, nI_1]
theorem OU.w2 (O : OU M M' σ σ' k) (hk : k + 1 < 139) (hc : c < 65536) : ∃ M'' σ'', fX0_writes K (hp a M') a (nI c) 2 = some (hp a M'') ∧ fX6_writesTwo σ' (nI c) = some σ'' ∧ OU M M'' σ σ'' (k + 2) := by
  have e : (nI c >>> (nI (24 - 8 * 3) &&& 31)) &&& 255 = nI (c % 256) := by
    rw [pk_shrN (by omega) _ 0 (bit_sm 0 (by omega)), pk_andN (by omega) 8 rfl]
    exact congrArg nI (by omega)
  have e1 : (nI c >>> (nI (24 - 8 * 2) &&& 31)) &&& 255 = nI (c / 256) := by
    rw [pk_shrN (by omega) _ 8 (bit_sm 8 (by omega)), pk_andN (by omega) 8 rfl]
    exact congrArg nI (by omega)
  have O1 := O.put (show c / 256 < 256 by omega) (byB_c _ 2 e1)
  have O2 := O1.put (show c % 256 < 256 by omega) (byB_c _ 3 e)
  refine ⟨_, _, ?_, ?_, O2⟩
  · obtain ⟨fu, hf⟩ : ∃ fu, FU = fu + 1 + 1 + 1 := ⟨99997, rfl⟩
    unfold fX0_writes
    rw [hf, show (8 : Int32) * 2 - 8 = 8 by decide, wr1 (nI c) (fu + 1 + 1) (by decide) O.1 (by omega), show (8 : Int32) + -8 = 0 by decide]
    show fX0_writes_8 K a (fu + 1 + 1) (hp a (mI (mI M' 0 21 (nI (k + 1))) 1351 k (byB (nI c) 2))) (nI c) 0 = _
    rw [wr1 (nI c) (fu + 1) (by decide) O1.1 hk]
    show fX0_writes_8 K a (fu + 1) _ (nI c) (0 + -8) = _
    simp only [fX0_writes_8, if_pos (show (0 + -8 : Int32) < 0 by decide)]
    rfl
  · have d1 : nI c / 256 = nI (c / 256) := divI (d := 256) (by omega) (by omega) (by omega)
    have d2 : nI c - nI (c / 256) * 256 = nI (c % 256) := by rw [← d1]; exact modI (d := 256) (by omega) (by omega) (by omega)
    have e2 : (sA σ' 101 k (nI (c / 256))).1 102 = nI k := O.2.1
    have e3 : (sA (sI (sA σ' 101 k (nI (c / 256))) 102 (nI (k + 1))) 101 (k + 1) (nI (c % 256))).1 102 = nI (k + 1) := O1.2.1
    have e4 := O1.2.1
    simp only [fX6_writesTwo, d1, d2, fX6_writes, O.2.1, tp101 (σ := σ') (show k < 139 by omega), bsm, e2, nI_1, e4, tp101 (show k + 1 < 139 by omega), e3]
theorem OU.same (O : OU M M' σ σ' k) : SameH M M' := ⟨by rw [O.2.2.2.1], by rw [O.2.2.2.1]⟩
theorem OU.upe (O : OU M M' σ σ' k) : UpE σ σ' := ⟨fun j hj => O.2.2.2.2.2.2.2.2.2 j (by omega), by rw [O.2.2.2.2.2.2.2.2.1]⟩
theorem OU.mm (O : OU M M' σ σ' k) {o : Nat} (h : 16 ≤ o) (h' : o < 75) : M'.1 o = M.1 o := O.2.2.2.2.1 o (by omega) (by omega)
theorem OU.t (O : OU M M' σ σ' k) : σ'.2.2.1 54 = σ.2.2.1 54 := O.2.2.2.2.2.2.2.2.2 54 (by omega)
/-- one profile's films -/
theorem img_s (X : HX a M σ nk nf np pt vl vf vm) (S : SR M 0 (σ.2.2.1 54) np pt hr) (O : OU M M' σ σ' k) (hk : k + nf ≤ 139) (hw : w < 6) (kc : HS → Int32 → Option (HS × Int32)) (kt : MS → Int32 → Option (MS × Int32)) : ∃ M'' σ'', OU M M'' σ σ'' (k + nf) ∧ fX0_image_79 K a kc FU (hp a M') (nI w) 0 = kc (hp a M'') (nI (w + 1)) ∧ fX6_image_68 kt FU σ' (nI w) 0 = kt σ'' (nI (w + 1)) := by
  have b := X.bk
  have i0 : 0 < 22 := by omega
  obtain ⟨-, -, -, ts, -⟩ := id S
  refine lp2z (F := fun n (h : HS) q => fX0_image_79 K a kc n h (nI w) q) (G := fun n (s : MS) q => fX6_image_68 kt n s (nI w) q) (N := nf) (I := fun q h s => ∃ M'', h = hp a M'' ∧ OU M M'' σ s (k + q)) (P := fun r1 r2 => ∃ M'' σ'', OU M M'' σ σ'' (k + nf) ∧ r1 = kc (hp a M'') (nI (w + 1)) ∧ r2 = kt σ'' (nI (w + 1))) (by omega) ⟨M', rfl, O⟩ ?_ ?_
  · rintro n m h s q hq ⟨M1, rfl, O1⟩
    have kk := nI_ge hq (show nf < 2 ^ 31 by omega)
    obtain ⟨t1, c, c1, c2⟩ := ts w q (by omega) (by omega)
    have hpt := X.v.2.2.1 q
    obtain ⟨M2, s2, y1, y2, O2⟩ := O1.w1 (K := K) (a := a) (c := c) (by omega) (by omega)
    refine Or.inl ⟨hp a M2, s2, ⟨M2, rfl, O2⟩, ?_, ?_⟩
    · have e1 : M1.1 (sbo 0 + (9 + w)) q = nI c := by rw [O1.mm (by show 16 ≤ 16 + _; omega) (by show 16 + _ < 75; omega), t1, c2]
      simp only [fX0_image_79, x_rcv, X.films O1.same, bsm, if_neg kk, x_g9, s_g4 i0, s_seenO i0 hw, c_seen i0 hw (show q < 8 by omega), e1, y1, nI_1]
    · have e1 : fX6_seenBy s (nI w) (nI q) = some (nI c) := by
        simp only [fX6_seenBy, fX6_seenAt, ki2, ki14, ki6, nI_mul, nI_add, bsm, tg54 (σ := s) (i := 2 + 14 * w + 6 + q) (by omega), O1.t, c2]
      simp only [fX6_image_68, (X.to (SameH.refl M) O1.upe.up).filmM, bsm, if_neg kk, e1, y2, nI_1]
  · rintro n m h s ⟨M1, rfl, O1⟩
    have kk := nI_le (Nat.le_refl nf) (show nf < 2 ^ 31 by omega)
    refine ⟨M1, s, O1, ?_, ?_⟩
    · simp only [fX0_image_79, x_rcv, X.films O1.same, bsm, if_pos kk, nI_1]
    · simp only [fX6_image_68, (X.to (SameH.refl M) O1.upe.up).filmM, bsm, if_pos kk, nI_1]
theorem img_t (X : HX a M σ nk nf np pt vl vf vm) (S : SR M 0 (σ.2.2.1 54) np pt hr) (O : OU M M' σ σ' k) (hk : k + 2 * nk ≤ 139) (hw : w < 6) (kc : HS → Int32 → Option (HS × Int32)) (kt : MS → Int32 → Option (MS × Int32)) : ∃ M'' σ'', OU M M'' σ σ'' (k + 2 * nk) ∧ fX0_image_47 K a kc FU (hp a M') (nI w) 0 = fX0_image_79 K a kc FU (hp a M'') (nI w) 0 ∧ fX6_image_37 kt FU σ' (nI w) 0 = fX6_image_68 kt FU σ'' (nI w) 0 := by
  have b := X.bk
  have i0 : 0 < 22 := by omega
  obtain ⟨-, -, ts, -, -⟩ := id S
  refine lp2z (F := fun n (h : HS) q => fX0_image_47 K a kc n h (nI w) q) (G := fun n (s : MS) q => fX6_image_37 kt n s (nI w) q) (N := nk) (I := fun q h s => ∃ M'', h = hp a M'' ∧ OU M M'' σ s (k + 2 * q)) (P := fun r1 r2 => ∃ M'' σ'', OU M M'' σ σ'' (k + 2 * nk) ∧ r1 = fX0_image_79 K a kc FU (hp a M'') (nI w) 0 ∧ r2 = fX6_image_68 kt FU σ'' (nI w) 0) (by omega) ⟨M', rfl, O⟩ ?_ ?_
  · rintro n m h s q hq ⟨M1, rfl, O1⟩
    have kk := nI_ge hq (show nk < 2 ^ 31 by omega)
    obtain ⟨t1, c, c1, c2⟩ := ts w q (by omega) (by omega)
    obtain ⟨M2, s2, y1, y2, O2⟩ := O1.w2 (K := K) (a := a) (c := c) (by omega) (by omega)
    refine Or.inl ⟨hp a M2, s2, ⟨M2, rfl, by rw [show k + 2 * (q + 1) = k + 2 * q + 2 by omega]; exact O2⟩, ?_, ?_⟩
    · have e1 : M1.1 (sbo 0 + (2 + w)) q = nI c := by rw [O1.mm (by show 16 ≤ 16 + _; omega) (by show 16 + _ < 75; omega), t1, c2]
      simp only [fX0_image_47, x_rcv, X.kinds O1.same, bsm, if_neg kk, x_g9, s_g3 i0, s_tasteO i0 hw, c_taste i0 hw (show q < 6 by omega), e1, y1, nI_1]
    · simp only [fX6_image_37, (X.to (SameH.refl M) O1.upe.up).kindM, bsm, if_neg kk, fX6_tasteAt, ki2, ki14, nI_mul, nI_add, tg54 (σ := s) (i := 2 + 14 * w + q) (by omega), O1.t, c2, y2, nI_1]
  · rintro n m h s ⟨M1, rfl, O1⟩
    have kk := nI_le (Nat.le_refl nk) (show nk < 2 ^ 31 by omega)
    refine ⟨M1, s, O1, ?_, ?_⟩
    · simp only [fX0_image_47, x_rcv, X.kinds O1.same, bsm, if_pos kk]
    · simp only [fX6_image_37, (X.to (SameH.refl M) O1.upe.up).kindM, bsm, if_pos kk]
/-- the check octet -/
theorem chk_o {arr : Option Nat} {ka : Nat} {N : Nat} (hN : N < 2000) (h1 : ∀ q, q < N → ∃ c, c < 256 ∧ aX σ ka (nI q) = some (nI c) ∧ ∃ v, cI K (hp a M) arr 3 (nI q) = some v ∧ v &&& 255 = nI c) : ∃ c, c < 251 ∧ fX0_check K (hp a M) arr (nI N) = some (nI c) ∧ fX6_checked σ ka (nI N) = some (nI c) := by
  refine lp2z (F := fun n (x : Int32) q => fX0_check_5 K (hp a M) n arr (nI N) x q) (G := fun n (x : Int32) q => fX6_checked_5 σ n ka (nI N) x q) (N := N) (x := 53) (y := 53) (I := fun q x y => ∃ c, c < 251 ∧ x = nI c ∧ y = nI c) (P := fun r1 r2 => ∃ c, c < 251 ∧ r1 = some (nI c) ∧ r2 = some (nI c)) (by omega) ⟨53, by omega, rfl, rfl⟩ ?_ ?_
  · rintro n m x y q hq ⟨c, hc, rfl, rfl⟩
    have kk := nI_ge hq (show N < 2 ^ 31 by omega)
    obtain ⟨c', c1, c2, v, c3, c4⟩ := h1 q hq
    have e : (3 : Int32) * nI c + nI c' = nI (3 * c + c') := by rw [ki3, nI_mul, nI_add]
    have e2 : nI (3 * c + c') - nI (3 * c + c') / 251 * 251 = nI ((3 * c + c') % 251) := modI (d := 251) (by omega) (by omega) (by omega)
    refine Or.inl ⟨nI ((3 * c + c') % 251), nI ((3 * c + c') % 251), ⟨_, Nat.mod_lt _ (by omega), rfl, rfl⟩, ?_, ?_⟩
    · simp only [fX0_check_5, if_neg kk, c3, bsm, c4, e, e2, nI_1]
    · simp only [fX6_checked_5, if_neg kk, c2, bsm, e, e2, nI_1]
  · rintro n m x y ⟨c, hc, rfl, rfl⟩
    have kk := nI_le (Nat.le_refl N) (show N < 2 ^ 31 by omega)
    exact ⟨c, hc, by simp only [fX0_check_5, if_pos kk], by simp only [fX6_checked_5, if_pos kk]⟩
theorem img_p (X : HX a M σ nk nf np pt vl vf vm) (S : SR M 0 (σ.2.2.1 54) np pt hr) (h9 : pt 9 = 0) (O : OU M M' σ σ' k) (hk : k + 3 * np + 1 ≤ 139) : ∃ M'' σ'', OU M M'' σ σ'' (k + 3 * np + 1) ∧ fX0_image_117 K a FU (hp a M') 0 = some (hp a M'', nI (k + 3 * np + 1)) ∧ fX6_image_100 FU σ' 0 = some (σ'', nI (k + 3 * np + 1)) := by
  have b := X.bk
  have i0 : 0 < 22 := by omega
  have ss : ∀ p, p < 5 → _ := fun p hp => S.saw h9 hp
  obtain ⟨mm, m1, m0, m2, m3, -⟩ := SR.press X S
  obtain ⟨-, ⟨m', q1, q2, q3⟩, -⟩ := id S
  refine lp2z (F := fun n (h : HS) q => fX0_image_117 K a n h q) (G := fun n (s : MS) q => fX6_image_100 n s q) (N := np) (I := fun q h s => ∃ M'', h = hp a M'' ∧ OU M M'' σ s (k + 3 * q)) (P := fun r1 r2 => ∃ M'' σ'', OU M M'' σ σ'' (k + 3 * np + 1) ∧ r1 = some (hp a M'', nI (k + 3 * np + 1)) ∧ r2 = some (σ'', nI (k + 3 * np + 1))) (by omega) ⟨M', rfl, O⟩ ?_ ?_
  · rintro n m h s p hp' ⟨M1, rfl, O1⟩
    have kk := nI_ge hp' (show np < 2 ^ 31 by omega)
    have hm' : m' < 2 ^ 31 := Nat.lt_of_lt_of_le q1 (Nat.pow_le_pow_right (by omega) (by omega))
    obtain ⟨t1, c, c1, c2⟩ := ss p (by omega)
    have hb : m' / 2 ^ p % 2 < 2 := Nat.mod_lt _ (by omega)
    obtain ⟨M2, s2, y1, y2, O2⟩ := O1.w1 (K := K) (a := a) (c := m' / 2 ^ p % 2) (by omega) (by omega)
    obtain ⟨M3, s3, y3, y4, O3⟩ := O2.w2 (K := K) (a := a) (c := c) (by omega) (by omega)
    refine Or.inl ⟨hp a M3, s3, ⟨M3, rfl, by rw [show k + 3 * (p + 1) = k + 3 * p + 1 + 2 by omega]; exact O3⟩, ?_, ?_⟩
    · have e0 : M1.1 (sbo 0) 1 = nI m' := by rw [O1.mm (by show 16 ≤ 16; omega) (by show 16 < 75; omega), q2]
      have e1 : M2.1 (sbo 0 + 15) p = nI c := by rw [O2.mm (by show 16 ≤ 16 + _; omega) (by show 16 + _ < 75; omega), t1, c2]
      have e2 : fX0_image_145 K a (fun h' b1 => fX0_image_117 K a n h' b1) (hp a M1) (nI p) (nI (m' / 2 ^ p % 2)) = fX0_image_117 K a n (hp a M3) (nI (p + 1)) := by
        simp only [fX0_image_145, x_rcv, bsm, y1, x_g9, s_g5 i0, c_saw i0 (show p < 5 by omega), e1, y3, nI_1]
      simp only [fX0_image_117, x_rcv, X.people O1.same, bsm, if_neg kk, x_g9, s_g1 i0, e0, c_has K _ hm' (show p < 31 by omega)]
      rcases Nat.mod_two_eq_zero_or_one (m' / 2 ^ p) with e | e <;> rw [e] at e2 ⊢
      · rw [if_pos (by decide)]; exact e2
      · rw [if_neg (by decide)]; exact e2
    · have e1 : σ.2.2.1 54 (86 + 2 * p) = nI (m' / 2 ^ p % 2) := q3 p hp'
      simp only [fX6_image_100, (X.to (SameH.refl M) O1.upe.up).persM, bsm, if_neg kk, ki86, ki2, nI_mul, nI_add, tg54 (σ := s) (i := 86 + 2 * p) (by omega), O1.t, e1, y2, hoursOfT s2 (show p < 5 by omega), O2.t, c2, y4, nI_1]
  · rintro n m h s ⟨M1, rfl, O1⟩
    have kk := nI_le (Nat.le_refl np) (show np < 2 ^ 31 by omega)
    obtain ⟨c, hc, x1, x2⟩ := chk_o (K := K) (a := a) (M := M1) (σ := s) (arr := some (a + 1351)) (ka := 101) (N := k + 3 * np) (by omega) (fun q hq => by
      obtain ⟨c, c1, c2, c3⟩ := O1.2.2.1 q hq
      exact ⟨c, c1, by rw [aX_o (n := 139) rfl rfl (by omega) (by omega), c2], _, c_out (by omega), c3⟩)
    obtain ⟨M2, s2, y1, y2, O2⟩ := O1.w1 (K := K) (a := a) (c := c) (by omega) (by omega)
    refine ⟨M2, s2, O2, ?_, ?_⟩
    · simp only [fX0_image_117, x_rcv, X.people O1.same, bsm, if_pos kk, x_g20, x_g21, O1.1, x1, y1, O2.1]
    · simp only [fX6_image_100, (X.to (SameH.refl M) O1.upe.up).persM, bsm, if_pos kk, O1.2.1, x2, y2, O2.2.1]
theorem ps31 : PS31 K a (IV K a) := by
  intro h σ n hn I
  have I' := I.next
  obtain ⟨M, nk, nf, np, pt, vl, vf, vm, rfl, X, H, N, E⟩ := I'
  have b := X.bk
  have i0 : 0 < 22 := by omega
  obtain ⟨hr, π, kp, N1, N2, N3, N4⟩ := id N
  obtain ⟨⟨a1, a2, a3, a4⟩, -⟩ := id N2
  have O0 : OU M (mI M 0 21 0) σ (sI σ 102 0) 0 := ⟨mI_s, sI_s, fun j hj => absurd hj (by omega), rfl, fun o h0 _ => mI_o h0, fun j hj => mI_n (by omega), fun j hj => sI_n hj, rfl, rfl, fun _ _ => rfl⟩
  have hd : hr / 24 < 65536 := by omega
  obtain ⟨M1, s1, y1, y2, O1⟩ := O0.w2 (K := K) (a := a) (c := hr / 24) (by omega) hd
  obtain ⟨M2, s2, y3, y4, O2⟩ := O1.w1 (K := K) (a := a) (c := hr % 24) (by omega) (by omega)
  obtain ⟨d1, d2⟩ := mod24 (show hr < 2 ^ 31 by omega)
  have hm : (np + 1) * (2 * nk + nf) ≤ 120 := Nat.le_trans (Nat.mul_le_mul (show np + 1 ≤ 6 by omega) (show 2 * nk + nf ≤ 20 by omega)) (by omega)
  have key : ∃ M'' σ'', OU M M'' σ σ'' (3 + (np + 1) * (2 * nk + nf) + 3 * np + 1) ∧ fX0_image_37 K a FU (hp a M2) 0 = some (hp a M'', nI (3 + (np + 1) * (2 * nk + nf) + 3 * np + 1)) ∧ fX6_image_27 FU s2 0 = some (σ'', nI (3 + (np + 1) * (2 * nk + nf) + 3 * np + 1)) := by
    refine lp2z (F := fun n (h : HS) q => fX0_image_37 K a n h q) (G := fun n (s : MS) q => fX6_image_27 n s q) (N := np + 1) (I := fun q h s => ∃ M'', h = hp a M'' ∧ OU M M'' σ s (3 + q * (2 * nk + nf))) (P := fun r1 r2 => ∃ M'' σ'', OU M M'' σ σ'' (3 + (np + 1) * (2 * nk + nf) + 3 * np + 1) ∧ r1 = some (hp a M'', nI (3 + (np + 1) * (2 * nk + nf) + 3 * np + 1)) ∧ r2 = some (σ'', nI (3 + (np + 1) * (2 * nk + nf) + 3 * np + 1))) (by omega) ⟨M2, rfl, by rw [Nat.zero_mul]; exact O2⟩ ?_ ?_
    · rintro n m h s w hw ⟨M3, rfl, O3⟩
      have kk : ¬ nI np < nI w := fun q => by rw [nI_ltE (by omega) (by omega)] at q; omega
      have hw' : (w + 1) * (2 * nk + nf) ≤ (np + 1) * (2 * nk + nf) := Nat.mul_le_mul_right _ (by omega)
      have ew : (w + 1) * (2 * nk + nf) = w * (2 * nk + nf) + (2 * nk + nf) := Nat.succ_mul _ _
      obtain ⟨M4, s4, O4, y5, y6⟩ := img_t (K := K) X N2 O3 (show 3 + w * (2 * nk + nf) + 2 * nk ≤ 139 by omega) (show w < 6 by omega) (fun h' b1 => fX0_image_37 K a n h' b1) (fun σ' b1 => fX6_image_27 m σ' b1)
      obtain ⟨M5, s5, O5, y7, y8⟩ := img_s (K := K) X N2 O4 (show 3 + w * (2 * nk + nf) + 2 * nk + nf ≤ 139 by omega) (show w < 6 by omega) (fun h' b1 => fX0_image_37 K a n h' b1) (fun σ' b1 => fX6_image_27 m σ' b1)
      refine Or.inl ⟨hp a M5, s5, ⟨M5, rfl, by rw [ew, show 3 + (w * (2 * nk + nf) + (2 * nk + nf)) = 3 + w * (2 * nk + nf) + 2 * nk + nf by omega]; exact O5⟩, ?_, ?_⟩
      · simp only [fX0_image_37, x_rcv, X.people O3.same, bsm, if_neg kk, y5, y7]
      · simp only [fX6_image_27, (X.to (SameH.refl M) O3.upe.up).persM, bsm, if_neg kk, y6, y8]
    · rintro n m h s ⟨M3, rfl, O3⟩
      have kk : nI np < nI (np + 1) := by rw [nI_ltE (by omega) (by omega)]; omega
      obtain ⟨M4, s4, O4, y5, y6⟩ := img_p (K := K) X N2 N1.2 O3 (by omega)
      refine ⟨M4, s4, O4, ?_, ?_⟩
      · simp only [fX0_image_37, x_rcv, X.people O3.same, bsm, if_pos kk, y5]
      · simp only [fX6_image_27, (X.to (SameH.refl M) O3.upe.up).persM, bsm, if_pos kk, y6]
  obtain ⟨M', σ', O, y5, y6⟩ := key
  have hl : 3 + (np + 1) * (2 * nk + nf) + 3 * np + 1 ≤ 139 := by omega
  generalize 3 + (np + 1) * (2 * nk + nf) + 3 * np + 1 = L at *
  refine ⟨hp a M', σ', nI L, ?_, ?_, ?_⟩
  · have e0 : (mI M 0 21 0).1 (sbo 0) 0 = nI hr := by rw [O0.mm (by show 16 ≤ 16; omega) (by show 16 < 75; omega), a1]
    have e1 : M1.1 (sbo 0) 0 = nI hr := by rw [O1.mm (by show 16 ≤ 16; omega) (by show 16 < 75; omega), a1]
    simp only [fX0_image, x_p21, bsm, x_g9, s_g0 i0, e0, d2, x_rcv, y1, e1, d1]
    rw [← d2, d1, y3, bsm, y5]
  · have e0 : (sI σ 102 0).2.2.1 54 0 = nI (hr / 24) := a2
    have e1 : s1.2.2.1 54 1 = nI (hr % 24) := by rw [O1.t]; exact a3
    have t0 : aI (sI σ 102 0) 54 0 = some ((sI σ 102 0).2.2.1 54 0) := tg54 (i := 0) (by omega)
    have t1 : aI s1 54 1 = some (s1.2.2.1 54 1) := tg54 (i := 1) (by omega)
    simp only [fX6_image, t0, e0, bsm, y2, t1, e1, y4, y6]
  · obtain ⟨o1, o2, o3, o4, o5, o6, o7, o8, o9, o10⟩ := id O
    obtain ⟨h1, h2, h3, h4, h5, h6, h7, h8, h9, h10, h11⟩ := E
    refine ⟨M', nk, nf, np, pt, vl, vf, vm, rfl, X.to O.same O.upe.up, by rw [o4]; exact H.up O.upe.up, N.nr b.2.2 (fun o h1 h2 => o5 o (by omega) (by omega)) (by rw [o4]) O.t, fun i hi => ?_, h2.to (o6 2 (by omega)) (by rw [o4]) (o7 1 (by omega)), h3.to (o5 8 (by omega) (by omega)) (o10 0 (by omega)), h4.to (o6 3 (by omega)) (o6 4 (by omega)) (o7 7 (by omega)) (o7 8 (by omega)), h5.to (o5 15 (by omega) (by omega)) (o10 9 (by omega)), h6.to (o6 15 (by omega)) (fun o ho => o5 o (by omega) (by omega)) (o7 65 (by omega)) (o10 66 (by omega)), h7.to (by rw [o4]) (by rw [o8]), ⟨L, hl, o1, o2, o3⟩, ?_, by rw [o7 60 (by omega)]; exact h10, h11.to (fun k hk => o10 k (by omega))⟩
    · obtain ⟨π, kp, R⟩ := h1 i hi
      have hs := sbo_c i
      exact ⟨π, kp, R.to (by rw [o5 _ (by omega) (by omega)]) (by rw [o4])⟩
    · obtain ⟨u, nw, κ, q1, q2, q3, q4, q5, q6, q7, q8⟩ := h9
      refine ⟨u, nw, κ, q1, q2, by rw [o6 17 (by omega)]; exact q3, by rw [o7 68 (by omega)]; exact q4, by rw [o7 69 (by omega)]; exact q5, by rw [o4]; exact q6, q7, fun j hj => ?_⟩
      have hk' := (q6 j (by omega)).1
      have hs := sbo_c (2 + κ j)
      exact (q8 j hj).to (by omega) b.2.2 (fun t' ht => o5 _ (by omega) (by omega)) (by rw [o4]) (fun j _ => by rw [o10 67 (by omega)])
end PIM

/-! PLAIN LAW, what was seen is kept: both sides -/
set_option maxRecDepth 100000
/-- only rows of State i (and how many they are) have changed -/
def MT (i : Nat) (M M' : CM) : Prop := (∀ o k, ¬ (sbo i + 17 ≤ o ∧ o < sbo i + 57) → ¬ (o = sbo i ∧ k = 2) → M'.1 o k = M.1 o k) ∧ M'.2.1 = M.2.1 ∧ (∀ o, o ≠ sbo i + 16 → M'.2.2.1 o = M.2.2.1 o) ∧ M'.2.2.2 = M.2.2.2
def TK (σ σ' : MS) : Prop := σ'.1 = σ.1 ∧ σ'.2.1 = σ.2.1 ∧ (∀ k, k ≠ 54 → σ'.2.2.1 k = σ.2.2.1 k) ∧ (∀ j, j < 96 → σ'.2.2.1 54 j = σ.2.2.1 54 j) ∧ σ'.2.2.2 = σ.2.2.2
section PTL
variable {K : KE} {a i j k f p w n o : Nat} {M M' M1 M2 : CM} {σ σ' σ1 σ2 : MS} {np hr kp : Nat} {pt : Nat → Nat} {π : Nat → Nat} {g : Nat → Int32}
theorem MT.refl (i : Nat) (M : CM) : MT i M M := ⟨fun _ _ _ _ => rfl, rfl, fun _ _ => rfl, rfl⟩
theorem MT.tr (h : MT i M M1) (g : MT i M1 M2) : MT i M M2 := ⟨fun o k q r => (g.1 o k q r).trans (h.1 o k q r), g.2.1.trans h.2.1, fun o q => (g.2.2.1 o q).trans (h.2.2.1 o q), g.2.2.2.trans h.2.2.2⟩
theorem MT.mf (h : MT i M M') : MF i M M' := ⟨fun o q => funext fun k => h.1 o k (by omega) (by omega), fun o _ _ => by rw [h.2.1], h.2.2.1, h.2.2.2⟩
theorem TK.refl (σ : MS) : TK σ σ := ⟨rfl, rfl, fun _ _ => rfl, fun _ _ => rfl, rfl⟩
theorem TK.tr (h : TK σ σ1) (g : TK σ1 σ2) : TK σ σ2 := ⟨g.1.trans h.1, g.2.1.trans h.2.1, fun k q => (g.2.2.1 k q).trans (h.2.2.1 k q), fun k q => (g.2.2.2.1 k q).trans (h.2.2.2.1 k q), g.2.2.2.2.trans h.2.2.2.2⟩
theorem TK.sA {v : Int32} (h : TK σ σ') (h1 : 96 ≤ j) : TK σ (sA σ' 54 j v) := ⟨h.1, h.2.1, fun k q => by rw [sA_n q]; exact h.2.2.1 k q, fun q hq => by rw [sA_m (by omega)]; exact h.2.2.2.1 q hq, h.2.2.2.2⟩
theorem TK.tf (h : TK σ σ') : TF σ σ' := ⟨fun k _ _ _ _ _ => by rw [h.1], h.2.1, fun k q _ _ => h.2.2.1 k q, fun k _ _ => by rw [h.2.2.2.2]⟩
theorem SR.mt (S : SR M i g np pt hr) (h : MT i M M') (hn : np ≤ 5) : SR M' i g np pt hr := by
  obtain ⟨⟨a1, a2, a3, a4⟩, ⟨m, m1, m2, m3⟩, b, c, d⟩ := S
  refine ⟨⟨by rw [h.1 _ _ (by omega) (by omega)]; exact a1, a2, a3, a4⟩, ⟨m, m1, by rw [h.1 _ _ (by omega) (by omega)]; exact m2, m3⟩, fun w k hw hk => ?_, fun w k hw hk => ?_, fun p hp => ?_⟩
  · rw [h.1 _ _ (by omega) (by omega)]; exact b w k hw hk
  · rw [h.1 _ _ (by omega) (by omega)]; exact c w k hw hk
  · rw [h.1 _ _ (by omega) (by omega)]; exact d p hp
theorem p_row0 {v : Int32} (hi : i < 22) (hw : w < 40) : sC (hp a M) (some (a + (sbo i + (17 + w)))) 0 (0 : Int32) v = some (hp a (mI M (sbo i + (17 + w)) 0 v)) := p_row (k := 0) hi hw (by omega)
theorem p_row1 {v : Int32} (hi : i < 22) (hw : w < 40) : sC (hp a M) (some (a + (sbo i + (17 + w)))) 0 (1 : Int32) v = some (hp a (mI M (sbo i + (17 + w)) 1 v)) := p_row (k := 1) hi hw (by omega)
theorem p_row2 {v : Int32} (hi : i < 22) (hw : w < 40) : sC (hp a M) (some (a + (sbo i + (17 + w)))) 0 (2 : Int32) v = some (hp a (mI M (sbo i + (17 + w)) 2 v)) := p_row (k := 2) hi hw (by omega)
theorem p_row3 {v : Int32} (hi : i < 22) (hw : w < 40) : sC (hp a M) (some (a + (sbo i + (17 + w)))) 0 (3 : Int32) v = some (hp a (mI M (sbo i + (17 + w)) 3 v)) := p_row (k := 3) hi hw (by omega)
theorem tells66 (hi : i < 22) (R : RS a M i π kp) (hk : kp < 40) (hh : M.1 (sbo i) 0 = nI hr) (hb : hr < 30000) (x y : Int32) : ∃ M', fX5_tells_66 K (a + sbo i) (hp a M) x y = some (hp a M') ∧ RS a M' i π (kp + 1) ∧ MT i M M' ∧ (∀ k j, k < kp → M'.1 (sbo i + (17 + π k)) j = M.1 (sbo i + (17 + π k)) j) ∧ M'.1 (sbo i + (17 + π kp)) 0 = nI (hr / 24) ∧ M'.1 (sbo i + (17 + π kp)) 1 = nI (hr % 24) ∧ M'.1 (sbo i + (17 + π kp)) 2 = x ∧ M'.1 (sbo i + (17 + π kp)) 3 = y := by
  obtain ⟨r1, r2, r3, r4⟩ := R
  obtain ⟨r5, r6⟩ := r3 kp hk
  obtain ⟨d1, d2⟩ := mod24 (show hr < 2 ^ 31 by omega)
  have d3 : nI hr - nI (hr / 24) * 24 = nI (hr % 24) := by rw [← d2]; exact d1
  refine ⟨mI (mI (mI (mI (mI M (sbo i + (17 + π kp)) 0 (nI (hr / 24))) (sbo i + (17 + π kp)) 1 (nI (hr % 24))) (sbo i + (17 + π kp)) 2 x) (sbo i + (17 + π kp)) 3 y) (sbo i) 2 (nI (kp + 1)), ?_, ⟨by omega, mI_s, fun k hk => r3 k hk, r4⟩, ⟨fun o k q1 q2 => ?_, rfl, fun _ _ => rfl, rfl⟩, fun k j hk' => ?_, ?_, ?_, ?_, ?_⟩
  · have e2 : ∀ (M' : CM), M'.2.2.1 (sbo i + 16) = M.2.2.1 (sbo i + 16) → cR K (hp a M') (some (a + (sbo i + 16))) 8 (nI kp) = some (some (a + (sbo i + (17 + π kp)))) := fun M' e => by rw [c_rows hi hk, e, r6]
    have z1 : ∀ (M' : CM) (k : Nat) (v : Int32), M'.1 (sbo i) 0 = nI hr → (mI M' (sbo i + (17 + π kp)) k v).1 (sbo i) 0 = nI hr := fun M' k v h => by rw [mI_n (Or.inl (by omega))]; exact h
    have z2 : ∀ (M' : CM) (k : Nat) (v : Int32), M'.1 (sbo i) 2 = nI kp → (mI M' (sbo i + (17 + π kp)) k v).1 (sbo i) 2 = nI kp := fun M' k v h => by rw [mI_n (Or.inl (by omega))]; exact h
    have h1 := z1 M 0 (nI (hr / 24)) hh
    have k1 := z2 M 0 (nI (hr / 24)) r2
    have k2 := z2 _ 1 (nI (hr % 24)) k1
    have k3 := z2 _ 2 x k2
    have k4 := z2 _ 3 y k3
    simp only [fX5_tells_66, s_g6 hi, s_g2 hi, r2, bsm, e2 M rfl, s_g0 hi, hh, d2, p_row0 hi r5, k1, h1, e2 (mI M (sbo i + (17 + π kp)) 0 (nI (hr / 24))) rfl, d3, p_row1 hi r5, k2, e2 (mI (mI M (sbo i + (17 + π kp)) 0 (nI (hr / 24))) (sbo i + (17 + π kp)) 1 (nI (hr % 24))) rfl, p_row2 hi r5, k3, e2 (mI (mI (mI M (sbo i + (17 + π kp)) 0 (nI (hr / 24))) (sbo i + (17 + π kp)) 1 (nI (hr % 24))) (sbo i + (17 + π kp)) 2 x) rfl, p_row3 hi r5, k4, nI_1, s_p2 hi]
  · rw [mI_n (by omega), mI_n (by omega), mI_n (by omega), mI_n (by omega), mI_n (by omega)]
  · have : π k ≠ π kp := fun q => by have := r4 k kp (by omega) hk q; omega
    rw [mI_n (by omega), mI_n (by omega), mI_n (by omega), mI_n (by omega), mI_n (by omega)]
  · rw [mI_n (by omega), mI_n (by omega), mI_n (by omega), mI_n (by omega), mI_s]
  · rw [mI_n (by omega), mI_n (by omega), mI_n (by omega), mI_s]
  · rw [mI_n (by omega), mI_n (by omega), mI_s]
  · rw [mI_n (by omega), mI_s]
theorem rot (hi : i < 22) (R : RS a M i π 40) (x y : Int32) : ∃ M1, fX5_tells_19 K (a + sbo i) FU (hp a M) x y (M.2.2.1 (sbo i + 16) 0) 1 = fX5_tells_66 K (a + sbo i) (hp a M1) x y ∧ RS a M1 i (fun k => if k + 1 < 40 then π (k + 1) else π 0) 39 ∧ (∀ o k, ¬ (o = sbo i ∧ k = 2) → M1.1 o k = M.1 o k) ∧ M1.2.1 = M.2.1 ∧ (∀ o, o ≠ sbo i + 16 → M1.2.2.1 o = M.2.2.1 o) ∧ M1.2.2.2 = M.2.2.2 := by
  obtain ⟨r1, r2, r3, r4⟩ := R
  refine lpR (F := fun n (h : HS) k => fX5_tells_19 K (a + sbo i) n h x y (M.2.2.1 (sbo i + 16) 0) k) (N := 40)
    (I := fun k h => ∃ M', h = hp a M' ∧ M'.1 = M.1 ∧ M'.2.1 = M.2.1 ∧ (∀ o, o ≠ sbo i + 16 → M'.2.2.1 o = M.2.2.1 o) ∧ M'.2.2.2 = M.2.2.2 ∧ 1 ≤ k ∧ ∀ j, j < 40 → M'.2.2.1 (sbo i + 16) j = if j + 1 < k then M.2.2.1 (sbo i + 16) (j + 1) else M.2.2.1 (sbo i + 16) j)
    (P := fun r => ∃ M1, r = fX5_tells_66 K (a + sbo i) (hp a M1) x y ∧ RS a M1 i (fun k => if k + 1 < 40 then π (k + 1) else π 0) 39 ∧ (∀ o k, ¬ (o = sbo i ∧ k = 2) → M1.1 o k = M.1 o k) ∧ M1.2.1 = M.2.1 ∧ (∀ o, o ≠ sbo i + 16 → M1.2.2.1 o = M.2.2.1 o) ∧ M1.2.2.2 = M.2.2.2) ?_ ?_ 39 1 (by omega) FU (hp a M) (FU_lt (by omega)) ⟨M, rfl, rfl, rfl, fun _ _ => rfl, rfl, by omega, fun j hj => by rw [if_neg (by omega)]⟩
  · rintro n h k hk ⟨M', rfl, e1, e2, e3, e4, e5, e6⟩
    refine Or.inl ⟨_, ⟨mR M' (sbo i + 16) (k - 1) (some (a + (sbo i + (17 + π k)))), rfl, e1, e2, fun o q => by rw [mR_o q]; exact e3 o q, e4, by omega, fun j hj => ?_⟩, ?_⟩
    · rw [mR_3, e6 j hj]
      by_cases hj2 : j = k - 1
      · rw [if_pos ⟨rfl, hj2⟩, if_pos (by omega), show j + 1 = k by omega, (r3 k hk).2]
      · rw [if_neg (by omega)]
        by_cases hj3 : j + 1 < k
        · rw [if_pos hj3, if_pos (by omega)]
        · rw [if_neg hj3, if_neg (by omega)]
    · have v8 : cR K (hp a M') (some (a + (sbo i + 16))) 8 (nI k) = some (some (a + (sbo i + (17 + π k)))) := by
        rw [c_rows hi hk, e6 k hk, if_neg (by omega), (r3 k hk).2]
      have kk : ¬ (40 : Int32) ≤ nI k := nI_ge (b := 40) hk (by omega)
      simp only [fX5_tells_19, if_neg kk, s_g6 hi, bsm, v8, nI_m1 (show 0 < k by omega), p_rows hi (show k - 1 < 40 by omega) (r3 k hk).1, nI_1]
  · rintro n h ⟨M', rfl, e1, e2, e3, e4, e5, e6⟩
    refine ⟨mI (mR M' (sbo i + 16) 39 (some (a + (sbo i + (17 + π 0))))) (sbo i) 2 (nI 39), ?_, ⟨by omega, mI_s, fun k hk => ⟨?_, ?_⟩, fun j k hj hk q => ?_⟩, fun o k q => ?_, e2, fun o q => ?_, e4⟩
    · have kk : (40 : Int32) ≤ nI 40 := by decide
      have v4 : (mR M' (sbo i + 16) 39 (some (a + (sbo i + (17 + π 0))))).1 (sbo i) 2 = nI 40 := by rw [mR_1, e1]; exact r2
      simp only [fX5_tells_19, if_pos kk, s_g6 hi, bsm, (r3 0 (by omega)).2, show (39 : Int32) = nI 39 from rfl, p_rows hi (show 39 < 40 by omega) (r3 0 (by omega)).1, s_g2 hi, v4, nI_m1 (show 0 < 40 by omega), s_p2 hi]
    · dsimp only
      split
      · exact (r3 _ (by omega)).1
      · exact (r3 _ (by omega)).1
    · show (mR M' (sbo i + 16) 39 (some (a + (sbo i + (17 + π 0))))).2.2.1 (sbo i + 16) k = some (a + (sbo i + (17 + (if k + 1 < 40 then π (k + 1) else π 0))))
      rw [mR_3]
      by_cases hk2 : k = 39
      · rw [if_pos ⟨rfl, hk2⟩, if_neg (by omega)]
      · rw [if_neg (by omega), e6 k hk, if_pos (by omega), if_pos (by omega), (r3 (k + 1) (by omega)).2]
    · dsimp only at q
      split at q
      · split at q
        · have := r4 _ _ (by omega) (by omega) q; omega
        · have := r4 _ _ (by omega) (by omega) q; omega
      · split at q
        · have := r4 _ _ (by omega) (by omega) q; omega
        · omega
    · rw [mI_n (by omega), mR_1, e1]
    · show (mR M' (sbo i + 16) 39 (some (a + (sbo i + (17 + π 0))))).2.2.1 o = _
      rw [mR_o q]
      exact e3 o q
theorem kept64 (hk : kp < 40) (h96 : σ.2.2.1 54 96 = nI (kp + 1)) (x y : Int32) : ∃ σ', fX6_isKept_64 σ x y = some σ' ∧ TK σ σ' ∧ (∀ j, ¬ (97 + 4 * kp ≤ j ∧ j < 97 + 4 * kp + 4) → σ'.2.2.1 54 j = σ.2.2.1 54 j) ∧ σ'.2.2.1 54 (97 + 4 * kp + 0) = σ.2.2.1 54 0 ∧ σ'.2.2.1 54 (97 + 4 * kp + 1) = σ.2.2.1 54 1 ∧ σ'.2.2.1 54 (97 + 4 * kp + 2) = x ∧ σ'.2.2.1 54 (97 + 4 * kp + 3) = y := by
  have e1 : nI (97 + 4 * (kp + 1)) - nI 4 = nI (97 + 4 * kp) := by
    rw [nI_sub (by omega)]
    exact congrArg nI (by omega)
  refine ⟨sA (sA (sA (sA σ 54 (97 + 4 * kp) (σ.2.2.1 54 0)) 54 (97 + 4 * kp + 1) (σ.2.2.1 54 1)) 54 (97 + 4 * kp + 2) x) 54 (97 + 4 * kp + 3) y, ?_, ((((TK.refl σ).sA (by omega)).sA (by omega)).sA (by omega)).sA (by omega), fun j hj => ?_, ?_, ?_, ?_, ?_⟩
  · simp only [fX6_isKept_64, ki96, ki97, ki4, ki2, ki3, tg54 (i := 96) (by omega), h96, bsm, show (0 : Int32) = nI 0 from rfl, show (1 : Int32) = nI 1 from rfl, tg54 (i := 0) (by omega), tg54 (i := 1) (by omega), nI_mul, nI_add, e1, tp54 (i := 97 + 4 * kp) (by omega), tp54 (i := 97 + 4 * kp + 1) (by omega), tp54 (i := 97 + 4 * kp + 2) (by omega), tp54 (i := 97 + 4 * kp + 3) (by omega), sA_m (σ := σ) (k := 54) (i := 97 + 4 * kp) (j := 1) (show 1 ≠ 97 + 4 * kp by omega)]
  · rw [sA_m (by omega), sA_m (by omega), sA_m (by omega), sA_m (by omega)]
  · rw [sA_m (by omega), sA_m (by omega), sA_m (by omega), Nat.add_zero, sA_s]
  · rw [sA_m (by omega), sA_m (by omega), sA_s]
  · rw [sA_m (by omega), sA_s]
  · rw [sA_s]
theorem shift (x y : Int32) (σ : MS) : ∃ σ', fX6_isKept_23 FU σ x y 97 = fX6_isKept_64 σ' x y ∧ TK σ σ' ∧ ∀ j, σ'.2.2.1 54 j = if 97 ≤ j ∧ j < 253 then σ.2.2.1 54 (j + 4) else σ.2.2.1 54 j := by
  refine lpR (F := fun n (s : MS) k => fX6_isKept_23 n s x y k) (N := 253) (I := fun k s => TK σ s ∧ 97 ≤ k ∧ ∀ j, s.2.2.1 54 j = if 97 ≤ j ∧ j < k then σ.2.2.1 54 (j + 4) else σ.2.2.1 54 j) (P := fun r => ∃ σ', r = fX6_isKept_64 σ' x y ∧ TK σ σ' ∧ ∀ j, σ'.2.2.1 54 j = if 97 ≤ j ∧ j < 253 then σ.2.2.1 54 (j + 4) else σ.2.2.1 54 j) ?_ ?_ 156 97 (by omega) FU σ (FU_lt (by omega)) ⟨TK.refl σ, by omega, fun j => by rw [if_neg (by omega)]⟩
  · rintro n s k hk ⟨h1, h2, h3⟩
    refine Or.inl ⟨sA s 54 k (σ.2.2.1 54 (k + 4)), ⟨h1.sA (by omega), by omega, fun j => ?_⟩, ?_⟩
    · rw [sA_e, h3 j]
      by_cases hj : j = k
      · rw [if_pos hj, if_pos (by omega), hj]
      · rw [if_neg hj]
        by_cases hj2 : 97 ≤ j ∧ j < k
        · rw [if_pos hj2, if_pos (by omega)]
        · rw [if_neg hj2, if_neg (by omega)]
    · have kk : ¬ (253 : Int32) ≤ nI k := nI_ge (b := 253) hk (by omega)
      simp only [fX6_isKept_23, if_neg kk, ki4, nI_add, tg54 (i := k + 4) (by omega), h3 (k + 4), if_neg (show ¬ (97 ≤ k + 4 ∧ k + 4 < k) by omega), bsm, tp54 (i := k) (by omega), nI_1]
  · rintro n s ⟨h1, h2, h3⟩
    refine ⟨s, ?_, h1, h3⟩
    have kk : (253 : Int32) ≤ nI 253 := by decide
    simp only [fX6_isKept_23, if_pos kk]
/-- the component's rows alone -/
theorem tells_c (hi : i < 22) (R : RS a M i π kp) (hh : M.1 (sbo i) 0 = nI hr) (hb : hr < 30000) (x y : Int32) : ∃ M' π' kp', fX5_tells K (hp a M) (a + sbo i) x y = some (hp a M') ∧ RS a M' i π' kp' ∧ MT i M M' ∧ ∀ σ : MS, KR M i (σ.2.2.1 54) π kp → σ.2.2.1 54 0 = nI (hr / 24) → σ.2.2.1 54 1 = nI (hr % 24) → σ.1 60 = 0 → ∃ σ', fX6_isKept σ x y = some σ' ∧ TK σ σ' ∧ KR M' i (σ'.2.2.1 54) π' kp' := by
  obtain ⟨r1, r2, r3, r4⟩ := id R
  by_cases hk : kp = 40
  · subst hk
    obtain ⟨M1, m1, m2, m3, m4, m5, m6⟩ := rot (K := K) hi R x y
    obtain ⟨M', e1, e2, e3, e4, e5, e6, e7, e8⟩ := tells66 (K := K) hi m2 (by omega) (by rw [m3 _ _ (by omega)]; exact hh) hb x y
    refine ⟨M', _, 40, ?_, e2, (show MT i M M1 from ⟨fun o k _ q => m3 o k q, m4, m5, m6⟩).tr e3, fun σ hR h0 h1 h60 => ?_⟩
    · have kk : nI 40 = (40 : Int32) := rfl
      simp only [fX5_tells, s_g2 hi, r2, bsm, if_pos kk, s_g6 hi, show (0 : Int32) = nI 0 from rfl, c_rows hi (show 0 < 40 by omega), m1, e1]
    · obtain ⟨σ1, s1, s2, s3⟩ := shift x y σ
      obtain ⟨q1, q2⟩ := hR
      have h96 : σ1.2.2.1 54 96 = nI (39 + 1) := by rw [s3, if_neg (by omega)]; exact q1
      obtain ⟨σ', u1, u2, u3, u4, u5, u6, u7⟩ := kept64 (by omega) h96 x y
      refine ⟨σ', ?_, s2.tr u2, by rw [u3 96 (by omega)]; exact h96, fun k j hk hj => ?_⟩
      · have kk : nI 40 = (40 : Int32) := rfl
        simp only [fX6_isKept, if_pos h60, ki96, tg54 (i := 96) (by omega), q1, bsm, if_pos kk, s1, u1]
      · by_cases hk2 : k = 39
        · subst hk2
          rcases (show j = 0 ∨ j = 1 ∨ j = 2 ∨ j = 3 by omega) with h | h | h | h <;> subst h
          · rw [e5, u4, s3, if_neg (by omega), h0]
          · rw [e6, u5, s3, if_neg (by omega), h1]
          · rw [e7, u6]
          · rw [e8, u7]
        · rw [e4 k j (by omega), u3 _ (by omega), s3, if_pos (by omega)]
          rw [if_pos (by omega), m3 _ _ (by omega), q2 (k + 1) j (by omega) hj]
          exact congrArg _ (by omega)
  · obtain ⟨M', e1, e2, e3, e4, e5, e6, e7, e8⟩ := tells66 (K := K) hi R (by omega) hh hb x y
    refine ⟨M', π, kp + 1, ?_, e2, e3, fun σ hR h0 h1 h60 => ?_⟩
    · have kk : ¬ nI kp = (40 : Int32) := by rw [ki40, nI_eqE (by omega) (by omega)]; exact hk
      simp only [fX5_tells, s_g2 hi, r2, bsm, if_neg kk, e1]
    · obtain ⟨q1, q2⟩ := hR
      have h96 : (sA σ 54 96 (nI (kp + 1))).2.2.1 54 96 = nI (kp + 1) := sA_s
      obtain ⟨σ', u1, u2, u3, u4, u5, u6, u7⟩ := kept64 (show kp < 40 by omega) h96 x y
      refine ⟨σ', ?_, ((TK.refl σ).sA (by omega)).tr u2, by rw [u3 96 (by omega)]; exact h96, fun k j hk' hj => ?_⟩
      · have kk : ¬ nI kp = (40 : Int32) := by rw [ki40, nI_eqE (by omega) (by omega)]; exact hk
        simp only [fX6_isKept, if_pos h60, ki96, tg54 (i := 96) (by omega), q1, bsm, if_neg kk, nI_1, tp54 (i := 96) (by omega), u1]
      · by_cases hk2 : k = kp
        · subst hk2
          rcases (show j = 0 ∨ j = 1 ∨ j = 2 ∨ j = 3 by omega) with h | h | h | h <;> subst h
          · rw [e5, u4, sA_m (by omega), h0]
          · rw [e6, u5, sA_m (by omega), h1]
          · rw [e7, u6]
          · rw [e8, u7]
        · rw [e4 k j (by omega), u3 _ (by omega), sA_m (by omega)]
          exact q2 k j (by omega) hj
end PTL

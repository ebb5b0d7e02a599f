/-! PLAIN LAW, copies: States; the twin's rows put aside -/
set_option maxRecDepth 100000
/-- State i is a copy of State j -/
def CP (i j : Nat) (M M' : CM) : Prop := MF i M M' ∧ M'.2.2 = M.2.2 ∧ M'.2.1 12 = M.2.1 12 ∧ (∀ k, k < 3 → M'.1 (sbo i) k = M.1 (sbo j) k) ∧ (∀ w k, w < 6 → k < 6 → M'.1 (sbo i + (2 + w)) k = M.1 (sbo j + (2 + w)) k) ∧ (∀ w k, w < 6 → k < 8 → M'.1 (sbo i + (9 + w)) k = M.1 (sbo j + (9 + w)) k) ∧ (∀ k, k < 5 → M'.1 (sbo i + 15) k = M.1 (sbo j + 15) k) ∧ (∀ k, k < 5 → M'.2.1 (sbo i + 57) k = 0 ∧ M'.1 (sbo i + 58) k = 0)
section PCP
variable {K : KE} {a i j k f p w n o s : Nat} {M M' M1 M2 : CM} {σ σ' σ1 σ2 : MS} {nk nf np hr kp : Nat} {pt : Nat → Nat} {π π' : Nat → Nat} {vl vf vm : Option Nat} {g : Nat → Int32}
theorem SR.cp (S : SR M j g np pt hr) (C : CP i j M M') (hn : np ≤ 5) : SR M' i g np pt hr := by
  obtain ⟨⟨a1, a2, a3, a4⟩, ⟨m, m1, m2, m3⟩, b, c, d⟩ := S
  obtain ⟨c1, c2, c0, c3, c4, c5, c6, c7⟩ := C
  exact ⟨⟨by rw [c3 0 (by omega)]; exact a1, a2, a3, a4⟩, ⟨m, m1, by rw [c3 1 (by omega)]; exact m2, m3⟩, fun w k hw hk => by rw [c4 w k hw hk]; exact b w k hw hk, fun w k hw hk => by rw [c5 w k hw hk]; exact c w k hw hk, fun p hp => by rw [c6 p hp]; exact d p hp⟩
theorem cp_t (hi : i < 22) (hj : j < 22) (hij : i ≠ j) (hw : w < 6) (M : CM) (kc : HS → Option Nat → Int32 → Option (HS × Option Nat)) : ∃ M', fX5_copy_33 K (a + sbo i) kc FU (hp a M) (some (a + sbo j)) (nI w) 0 = fX5_copy_63 K (a + sbo i) kc FU (hp a M') (some (a + sbo j)) (nI w) 0 ∧ M'.2 = M.2 ∧ ∀ o k', M'.1 o k' = if o = sbo i + (2 + w) ∧ k' < 6 then M.1 (sbo j + (2 + w)) k' else M.1 o k' := by
  refine lp1z (F := fun n (h : HS) k => fX5_copy_33 K (a + sbo i) kc n h (some (a + sbo j)) (nI w) k) (N := 6) (I := fun k h => ∃ M', h = hp a M' ∧ M'.2 = M.2 ∧ ∀ o k', M'.1 o k' = if o = sbo i + (2 + w) ∧ k' < k then M.1 (sbo j + (2 + w)) k' else M.1 o k') (P := fun r => ∃ M', r = fX5_copy_63 K (a + sbo i) kc FU (hp a M') (some (a + sbo j)) (nI w) 0 ∧ M'.2 = M.2 ∧ ∀ o k', M'.1 o k' = if o = sbo i + (2 + w) ∧ k' < 6 then M.1 (sbo j + (2 + w)) k' else M.1 o k') (by omega) ⟨M, rfl, rfl, fun o k' => by rw [if_neg (by omega)]⟩ ?_ ?_
  · rintro n h k hk ⟨M', rfl, e1, e2⟩
    refine Or.inl ⟨_, ⟨mI M' (sbo i + (2 + w)) k (M.1 (sbo j + (2 + w)) k), rfl, e1, fun o k' => ?_⟩, ?_⟩
    · rw [mI_1, e2]
      by_cases h1 : o = sbo i + (2 + w) ∧ k' = k
      · rw [if_pos h1, if_pos (by omega), h1.2]
      · rw [if_neg h1]
        by_cases h2 : o = sbo i + (2 + w) ∧ k' < k
        · rw [if_pos h2, if_pos (by omega)]
        · rw [if_neg h2, if_neg (by omega)]
    · have kk : ¬ (6 : Int32) ≤ nI k := nI_ge (b := 6) hk (by omega)
      have hne := sbo_ne hi hj hij (t := 2 + w) (u := 2 + w) (by omega) (by omega)
      have e3 : M'.1 (sbo j + (2 + w)) k = M.1 (sbo j + (2 + w)) k := by rw [e2, if_neg (by omega)]
      simp only [fX5_copy_33, if_neg kk, s_g3 hi, s_g3 hj, bsm, s_tasteO hi hw, s_tasteO hj hw, c_taste hj hw hk, e3, p_taste hi hw hk, nI_1]
  · rintro n h ⟨M', rfl, e1, e2⟩
    have kk : (6 : Int32) ≤ nI 6 := by decide
    exact ⟨M', by simp only [fX5_copy_33, if_pos kk], e1, e2⟩
theorem cp_s (hi : i < 22) (hj : j < 22) (hij : i ≠ j) (hw : w < 6) (M : CM) (kc : HS → Option Nat → Int32 → Option (HS × Option Nat)) : ∃ M', fX5_copy_63 K (a + sbo i) kc FU (hp a M) (some (a + sbo j)) (nI w) 0 = kc (hp a M') (some (a + sbo j)) (nI (w + 1)) ∧ M'.2 = M.2 ∧ ∀ o k', M'.1 o k' = if o = sbo i + (9 + w) ∧ k' < 8 then M.1 (sbo j + (9 + w)) k' else M.1 o k' := by
  refine lp1z (F := fun n (h : HS) k => fX5_copy_63 K (a + sbo i) kc n h (some (a + sbo j)) (nI w) k) (N := 8) (I := fun k h => ∃ M', h = hp a M' ∧ M'.2 = M.2 ∧ ∀ o k', M'.1 o k' = if o = sbo i + (9 + w) ∧ k' < k then M.1 (sbo j + (9 + w)) k' else M.1 o k') (P := fun r => ∃ M', r = kc (hp a M') (some (a + sbo j)) (nI (w + 1)) ∧ M'.2 = M.2 ∧ ∀ o k', M'.1 o k' = if o = sbo i + (9 + w) ∧ k' < 8 then M.1 (sbo j + (9 + w)) k' else M.1 o k') (by omega) ⟨M, rfl, rfl, fun o k' => by rw [if_neg (by omega)]⟩ ?_ ?_
  · rintro n h k hk ⟨M', rfl, e1, e2⟩
    refine Or.inl ⟨_, ⟨mI M' (sbo i + (9 + w)) k (M.1 (sbo j + (9 + w)) k), rfl, e1, fun o k' => ?_⟩, ?_⟩
    · rw [mI_1, e2]
      by_cases h1 : o = sbo i + (9 + w) ∧ k' = k
      · rw [if_pos h1, if_pos (by omega), h1.2]
      · rw [if_neg h1]
        by_cases h2 : o = sbo i + (9 + w) ∧ k' < k
        · rw [if_pos h2, if_pos (by omega)]
        · rw [if_neg h2, if_neg (by omega)]
    · have kk : ¬ (8 : Int32) ≤ nI k := nI_ge (b := 8) hk (by omega)
      have hne := sbo_ne hi hj hij (t := 9 + w) (u := 9 + w) (by omega) (by omega)
      have e3 : M'.1 (sbo j + (9 + w)) k = M.1 (sbo j + (9 + w)) k := by rw [e2, if_neg (by omega)]
      simp only [fX5_copy_63, if_neg kk, s_g4 hi, s_g4 hj, bsm, s_seenO hi hw, s_seenO hj hw, c_seen hj hw hk, e3, p_seen hi hw hk, nI_1]
  · rintro n h ⟨M', rfl, e1, e2⟩
    have kk : (8 : Int32) ≤ nI 8 := by decide
    exact ⟨M', by simp only [fX5_copy_63, if_pos kk, nI_1], e1, e2⟩
/-- tastes and parts seen -/
theorem cp_ts (hi : i < 22) (hj : j < 22) (hij : i ≠ j) (M : CM) : ∃ M', fX5_copy_26 K (a + sbo i) FU (hp a M) (some (a + sbo j)) 0 = fX5_copy_99 K (a + sbo i) FU (hp a M') (some (a + sbo j)) 0 ∧ M'.2 = M.2 ∧ (∀ o k, (o < sbo i + 2 ∨ sbo i + 15 ≤ o) → M'.1 o k = M.1 o k) ∧ (∀ w k, w < 6 → k < 6 → M'.1 (sbo i + (2 + w)) k = M.1 (sbo j + (2 + w)) k) ∧ (∀ w k, w < 6 → k < 8 → M'.1 (sbo i + (9 + w)) k = M.1 (sbo j + (9 + w)) k) := by
  refine lp1z (F := fun n (h : HS) k => fX5_copy_26 K (a + sbo i) n h (some (a + sbo j)) k) (N := 6) (I := fun w' h => ∃ M', h = hp a M' ∧ M'.2 = M.2 ∧ (∀ o k, (o < sbo i + 2 ∨ sbo i + 15 ≤ o) → M'.1 o k = M.1 o k) ∧ (∀ w k, w < w' → k < 6 → M'.1 (sbo i + (2 + w)) k = M.1 (sbo j + (2 + w)) k) ∧ (∀ w k, w < w' → k < 8 → M'.1 (sbo i + (9 + w)) k = M.1 (sbo j + (9 + w)) k)) (P := fun r => ∃ M', r = fX5_copy_99 K (a + sbo i) FU (hp a M') (some (a + sbo j)) 0 ∧ M'.2 = M.2 ∧ (∀ o k, (o < sbo i + 2 ∨ sbo i + 15 ≤ o) → M'.1 o k = M.1 o k) ∧ (∀ w k, w < 6 → k < 6 → M'.1 (sbo i + (2 + w)) k = M.1 (sbo j + (2 + w)) k) ∧ (∀ w k, w < 6 → k < 8 → M'.1 (sbo i + (9 + w)) k = M.1 (sbo j + (9 + w)) k)) (by omega) ⟨M, rfl, rfl, fun _ _ _ => rfl, fun w k h => absurd h (by omega), fun w k h => absurd h (by omega)⟩ ?_ ?_
  · rintro n h w hw ⟨M', rfl, e1, e2, e3, e4⟩
    have kk : ¬ (5 : Int32) < nI w := nI_nlt (b := w) (a := 5) (show w ≤ 5 by omega) (by omega)
    obtain ⟨M1, t1, t2, t3⟩ := cp_t (K := K) (a := a) hi hj hij hw M' (fun h' b1 b2 => fX5_copy_26 K (a + sbo i) n h' b1 b2)
    obtain ⟨M2, u1, u2, u3⟩ := cp_s (K := K) (a := a) hi hj hij hw M1 (fun h' b1 b2 => fX5_copy_26 K (a + sbo i) n h' b1 b2)
    have src : ∀ t k, t < 59 → M'.1 (sbo j + t) k = M.1 (sbo j + t) k := fun t k ht => by
      by_cases h1 : sbo j + t < sbo i + 2 ∨ sbo i + 15 ≤ sbo j + t
      · exact e2 _ _ h1
      · exfalso
        have := sbo_ne hi hj hij (t := sbo j + t - sbo i) (u := t) (by omega) ht
        omega
    refine Or.inl ⟨_, ⟨M2, rfl, by rw [u2, t2, e1], fun o k ho => ?_, fun w' k hw' hk => ?_, fun w' k hw' hk => ?_⟩, ?_⟩
    · rw [u3, if_neg (by omega), t3, if_neg (by omega)]
      exact e2 o k ho
    · rw [u3, if_neg (by omega), t3]
      by_cases h1 : w' = w
      · rw [if_pos (by omega), src _ _ (by omega), h1]
      · rw [if_neg (by omega)]
        exact e3 w' k (by omega) hk
    · rw [u3]
      by_cases h1 : w' = w
      · have hne := sbo_ne hi hj hij (t := 2 + w) (u := 9 + w) (by omega) (by omega)
        rw [if_pos (by omega), t3, if_neg (by omega), src _ _ (by omega), h1]
      · rw [if_neg (by omega), t3, if_neg (by omega)]
        exact e4 w' k (by omega) hk
    · simp only [fX5_copy_26, if_neg kk]
      rw [t1, u1]
  · rintro n h ⟨M', rfl, e1, e2, e3, e4⟩
    have kk : (5 : Int32) < nI 6 := by decide
    exact ⟨M', by simp only [fX5_copy_26, if_pos kk], e1, e2, e3, e4⟩
theorem cp_p (hi : i < 22) (hj : j < 22) (hij : i ≠ j) (M : CM) : ∃ M', fX5_copy_99 K (a + sbo i) FU (hp a M) (some (a + sbo j)) 0 = fX5_copy_138 K (a + sbo i) FU (hp a M') (some (a + sbo j)) 0 ∧ M'.2.2 = M.2.2 ∧ (∀ o k, o ≠ sbo i + 15 → o ≠ sbo i + 58 → M'.1 o k = M.1 o k) ∧ (∀ o, o ≠ sbo i + 57 → M'.2.1 o = M.2.1 o) ∧ (∀ k, k < 5 → M'.1 (sbo i + 15) k = M.1 (sbo j + 15) k ∧ M'.2.1 (sbo i + 57) k = 0 ∧ M'.1 (sbo i + 58) k = 0) := by
  refine lp1z (F := fun n (h : HS) k => fX5_copy_99 K (a + sbo i) n h (some (a + sbo j)) k) (N := 5) (I := fun k' h => ∃ M', h = hp a M' ∧ M'.2.2 = M.2.2 ∧ (∀ o k, o ≠ sbo i + 15 → o ≠ sbo i + 58 → M'.1 o k = M.1 o k) ∧ (∀ o, o ≠ sbo i + 57 → M'.2.1 o = M.2.1 o) ∧ (∀ k, k < k' → M'.1 (sbo i + 15) k = M.1 (sbo j + 15) k ∧ M'.2.1 (sbo i + 57) k = 0 ∧ M'.1 (sbo i + 58) k = 0)) (P := fun r => ∃ M', r = fX5_copy_138 K (a + sbo i) FU (hp a M') (some (a + sbo j)) 0 ∧ M'.2.2 = M.2.2 ∧ (∀ o k, o ≠ sbo i + 15 → o ≠ sbo i + 58 → M'.1 o k = M.1 o k) ∧ (∀ o, o ≠ sbo i + 57 → M'.2.1 o = M.2.1 o) ∧ (∀ k, k < 5 → M'.1 (sbo i + 15) k = M.1 (sbo j + 15) k ∧ M'.2.1 (sbo i + 57) k = 0 ∧ M'.1 (sbo i + 58) k = 0)) (by omega) ⟨M, rfl, rfl, fun _ _ _ _ => rfl, fun _ _ => rfl, fun k h => absurd h (by omega)⟩ ?_ ?_
  · rintro n h k hk ⟨M', rfl, e1, e2, e3, e4⟩
    have kk : ¬ (5 : Int32) ≤ nI k := nI_ge (b := 5) hk (by omega)
    have hne := sbo_ne hi hj hij (t := 15) (u := 15) (by omega) (by omega)
    have hne2 := sbo_ne hi hj hij (t := 58) (u := 15) (by omega) (by omega)
    refine Or.inl ⟨_, ⟨mI (mL (mI M' (sbo i + 15) k (M.1 (sbo j + 15) k)) (sbo i + 57) k 0) (sbo i + 58) k 0, rfl, e1, fun o k' h1 h2 => ?_, fun o h1 => ?_, fun k' hk' => ⟨?_, ?_, ?_⟩⟩, ?_⟩
    · rw [mI_n (Or.inl h2), mL_1, mI_n (Or.inl h1)]
      exact e2 o k' h1 h2
    · rw [mI_2, mL_o h1]
      exact e3 o h1
    · rw [mI_n (by omega), mL_1, mI_1]
      by_cases h1 : k' = k
      · rw [if_pos ⟨rfl, h1⟩, h1]
      · rw [if_neg (by omega)]
        exact (e4 k' (by omega)).1
    · rw [mI_2, mL_2]
      by_cases h1 : k' = k
      · rw [if_pos ⟨rfl, h1⟩]
      · rw [if_neg (by omega)]
        exact (e4 k' (by omega)).2.1
    · rw [mI_1]
      by_cases h1 : k' = k
      · rw [if_pos ⟨rfl, h1⟩]
      · rw [if_neg (by omega), mL_1, mI_n (by omega)]
        exact (e4 k' (by omega)).2.2
    · have e5 : M'.1 (sbo j + 15) k = M.1 (sbo j + 15) k := e2 _ _ (by omega) (by omega)
      simp only [fX5_copy_99, if_neg kk, s_g5 hi, s_g5 hj, bsm, c_saw hj hk, e5, p_saw hi hk, s_g7 hi, p_pls hi hk, s_g8 hi, p_refd hi hk, nI_1]
  · rintro n h ⟨M', rfl, e1, e2, e3, e4⟩
    have kk : (5 : Int32) ≤ nI 5 := by decide
    exact ⟨M', by simp only [fX5_copy_99, if_pos kk], e1, e2, e3, e4⟩
theorem cp_r (hi : i < 22) (hj : j < 22) (hij : i ≠ j) (M : CM) {r q : Nat} (hr' : r < 40) (hq : q < 40) (hk : k < 40) (e1 : M.2.2.1 (sbo i + 16) k = some (a + (sbo i + (17 + r)))) (e2 : M.2.2.1 (sbo j + 16) k = some (a + (sbo j + (17 + q)))) (kc : HS → Option Nat → Int32 → Option (HS × Option Nat)) : ∃ M', fX5_copy_148 K (a + sbo i) kc FU (hp a M) (some (a + sbo j)) (nI k) 0 = kc (hp a M') (some (a + sbo j)) (nI (k + 1)) ∧ M'.2 = M.2 ∧ ∀ o t, M'.1 o t = if o = sbo i + (17 + r) ∧ t < 4 then M.1 (sbo j + (17 + q)) t else M.1 o t := by
  refine lp1z (F := fun n (h : HS) t => fX5_copy_148 K (a + sbo i) kc n h (some (a + sbo j)) (nI k) t) (N := 4) (I := fun t' h => ∃ M', h = hp a M' ∧ M'.2 = M.2 ∧ ∀ o t, M'.1 o t = if o = sbo i + (17 + r) ∧ t < t' then M.1 (sbo j + (17 + q)) t else M.1 o t) (P := fun x => ∃ M', x = kc (hp a M') (some (a + sbo j)) (nI (k + 1)) ∧ M'.2 = M.2 ∧ ∀ o t, M'.1 o t = if o = sbo i + (17 + r) ∧ t < 4 then M.1 (sbo j + (17 + q)) t else M.1 o t) (by omega) ⟨M, rfl, rfl, fun o k' => by rw [if_neg (by omega)]⟩ ?_ ?_
  · rintro n h t ht ⟨M', rfl, f1, f2⟩
    refine Or.inl ⟨_, ⟨mI M' (sbo i + (17 + r)) t (M.1 (sbo j + (17 + q)) t), rfl, f1, fun o t' => ?_⟩, ?_⟩
    · rw [mI_1, f2]
      by_cases h1 : o = sbo i + (17 + r) ∧ t' = t
      · rw [if_pos h1, if_pos (by omega), h1.2]
      · rw [if_neg h1]
        by_cases h2 : o = sbo i + (17 + r) ∧ t' < t
        · rw [if_pos h2, if_pos (by omega)]
        · rw [if_neg h2, if_neg (by omega)]
    · have kk : ¬ (4 : Int32) ≤ nI t := nI_ge (b := 4) ht (by omega)
      have hne := sbo_ne hi hj hij (t := 17 + r) (u := 17 + q) (by omega) (by omega)
      have f3 : M'.1 (sbo j + (17 + q)) t = M.1 (sbo j + (17 + q)) t := by rw [f2, if_neg (by omega)]
      have f4 : M'.2.2.1 = M.2.2.1 := by rw [f1]
      simp only [fX5_copy_148, if_neg kk, s_g6 hi, s_g6 hj, bsm, c_rows hi hk, c_rows hj hk, f4, e1, e2, c_row hj hq ht, f3, p_row hi hr' ht, nI_1]
  · rintro n h ⟨M', rfl, f1, f2⟩
    have kk : (4 : Int32) ≤ nI 4 := by decide
    exact ⟨M', by simp only [fX5_copy_148, if_pos kk, nI_1], f1, f2⟩
theorem cp_rows (hi : i < 22) (hj : j < 22) (hij : i ≠ j) (M : CM) (R : RS a M i π kp) (R2 : ∀ k, k < 40 → π' k < 40 ∧ M.2.2.1 (sbo j + 16) k = some (a + (sbo j + (17 + π' k)))) : ∃ M', fX5_copy_138 K (a + sbo i) FU (hp a M) (some (a + sbo j)) 0 = some (hp a M', some (a + sbo i)) ∧ M'.2 = M.2 ∧ (∀ o t, (o < sbo i + 17 ∨ sbo i + 57 ≤ o) → M'.1 o t = M.1 o t) ∧ (∀ k t, k < kp → t < 4 → M'.1 (sbo i + (17 + π k)) t = M.1 (sbo j + (17 + π' k)) t) := by
  obtain ⟨r1, r2, r3, r4⟩ := R
  refine lp1z (F := fun n (h : HS) k => fX5_copy_138 K (a + sbo i) n h (some (a + sbo j)) k) (N := kp) (I := fun k' h => ∃ M', h = hp a M' ∧ M'.2 = M.2 ∧ (∀ o t, (o < sbo i + 17 ∨ sbo i + 57 ≤ o) → M'.1 o t = M.1 o t) ∧ (∀ k t, k < k' → t < 4 → M'.1 (sbo i + (17 + π k)) t = M.1 (sbo j + (17 + π' k)) t)) (P := fun x => ∃ M', x = some (hp a M', some (a + sbo i)) ∧ M'.2 = M.2 ∧ (∀ o t, (o < sbo i + 17 ∨ sbo i + 57 ≤ o) → M'.1 o t = M.1 o t) ∧ (∀ k t, k < kp → t < 4 → M'.1 (sbo i + (17 + π k)) t = M.1 (sbo j + (17 + π' k)) t)) (by omega) ⟨M, rfl, rfl, fun _ _ _ => rfl, fun k t h => absurd h (by omega)⟩ ?_ ?_
  · rintro n h k hk ⟨M', rfl, e1, e2, e3⟩
    have kk := nI_ge hk (show kp < 2 ^ 31 by omega)
    obtain ⟨M1, t1, t2, t3⟩ := cp_r (K := K) (a := a) hi hj hij M' (r3 k (by omega)).1 (R2 k (by omega)).1 (show k < 40 by omega) (by rw [e1]; exact (r3 k (by omega)).2) (by rw [e1]; exact (R2 k (by omega)).2) (fun h' b1 b2 => fX5_copy_138 K (a + sbo i) n h' b1 b2)
    have f2 : M'.1 (sbo i) 2 = nI kp := by rw [e2 _ _ (by omega)]; exact r2
    refine Or.inl ⟨_, ⟨M1, rfl, by rw [t2, e1], fun o t ho => ?_, fun k' t hk' ht => ?_⟩, ?_⟩
    · have := (r3 k (by omega)).1
      rw [t3, if_neg (by omega)]
      exact e2 o t ho
    · rw [t3]
      by_cases h1 : k' = k
      · subst h1
        rw [if_pos ⟨rfl, ht⟩]
        have h2 := (R2 k' (by omega)).1
        by_cases h3 : sbo j + (17 + π' k') < sbo i + 17 ∨ sbo i + 57 ≤ sbo j + (17 + π' k')
        · exact e2 _ _ h3
        · exfalso
          have := sbo_ne hi hj hij (t := sbo j + (17 + π' k') - sbo i) (u := 17 + π' k') (by omega) (by omega)
          omega
      · have : π k' ≠ π k := fun z => h1 (r4 _ _ (by omega) (by omega) z)
        rw [if_neg (by omega)]
        exact e3 k' t (by omega) ht
    · simp only [fX5_copy_138, s_g2 hi, f2, bsm, if_neg kk]
      rw [t1]
  · rintro n h ⟨M', rfl, e1, e2, e3⟩
    have kk := nI_le (Nat.le_refl kp) (show kp < 2 ^ 31 by omega)
    have f2 : M'.1 (sbo i) 2 = nI kp := by rw [e2 _ _ (by omega)]; exact r2
    exact ⟨M', by simp only [fX5_copy_138, s_g2 hi, f2, bsm, if_pos kk], e1, e2, e3⟩
theorem copy_ok {kp0 : Nat} (hi : i < 22) (hj : j < 22) (hij : i ≠ j) (R0 : RS a M i π kp0) (R : RS a M j π' kp) : ∃ M', fX5_copy K (hp a M) (a + sbo i) (some (a + sbo j)) = some (hp a M', some (a + sbo i)) ∧ CP i j M M' ∧ RS a M' i π kp ∧ (∀ k t, k < kp → t < 4 → M'.1 (sbo i + (17 + π k)) t = M.1 (sbo j + (17 + π' k)) t) := by
  have hne : ∀ t u, t < 59 → u < 59 → sbo i + t ≠ sbo j + u := fun t u ht hu => sbo_ne hi hj hij ht hu
  have h00 := hne 0 0 (by omega) (by omega)
  have si := sbo_lt hi
  have sj := sbo_lt hj
  let M0 : CM := mI (mI (mI M (sbo i) 0 (M.1 (sbo j) 0)) (sbo i) 1 (M.1 (sbo j) 1)) (sbo i) 2 (M.1 (sbo j) 2)
  have z0 : ∀ o k, ¬ (o = sbo i ∧ k < 3) → M0.1 o k = M.1 o k := fun o k h => by
    show (mI (mI (mI M (sbo i) 0 (M.1 (sbo j) 0)) (sbo i) 1 (M.1 (sbo j) 1)) (sbo i) 2 (M.1 (sbo j) 2)).1 o k = _
    rw [mI_n (by omega), mI_n (by omega), mI_n (by omega)]
  have z1 : ∀ k, k < 3 → M0.1 (sbo i) k = M.1 (sbo j) k := fun k h => by
    show (mI (mI (mI M (sbo i) 0 (M.1 (sbo j) 0)) (sbo i) 1 (M.1 (sbo j) 1)) (sbo i) 2 (M.1 (sbo j) 2)).1 (sbo i) k = _
    rcases (show k = 0 ∨ k = 1 ∨ k = 2 by omega) with h | h | h <;> subst h
    · rw [mI_n (by omega), mI_n (by omega), mI_s]
    · rw [mI_n (by omega), mI_s]
    · rw [mI_s]
  obtain ⟨M1, a1, a2, a3, a4, a5⟩ := cp_ts (K := K) (a := a) hi hj hij M0
  obtain ⟨M2, b1, b2, b3, b4, b5⟩ := cp_p (K := K) (a := a) hi hj hij M1
  have r22 : M2.2.2 = M.2.2 := by rw [b2, a2]; rfl
  have f0 : ∀ k, k < 3 → M2.1 (sbo i) k = M.1 (sbo j) k := fun k hk => by rw [b3 _ _ (by omega) (by omega), a3 _ _ (by omega)]; exact z1 k hk
  have R2 : RS a M2 i π kp := ⟨R.1, by rw [f0 2 (by omega)]; exact R.2.1, fun k hk => by rw [r22]; exact R0.2.2.1 k hk, R0.2.2.2⟩
  obtain ⟨M3, c1, c2, c3, c4⟩ := cp_rows (K := K) (a := a) hi hj hij M2 R2 (π' := π') (fun k hk => by rw [r22]; exact R.2.2.1 k hk)
  have sj1 : ∀ t k, t < 59 → M1.1 (sbo j + t) k = M.1 (sbo j + t) k := fun t k ht => by
    have h1 : sbo j + t < sbo i + 2 ∨ sbo i + 15 ≤ sbo j + t := by
      by_cases h1 : sbo j + t < sbo i + 2 ∨ sbo i + 15 ≤ sbo j + t
      · exact h1
      · exfalso
        have := hne (sbo j + t - sbo i) t (by omega) ht
        omega
    rw [a3 _ _ h1, z0 _ _ (fun q => by have := hne 0 t (by omega) ht; omega)]
  have sj0 : ∀ t k, t < 59 → M0.1 (sbo j + t) k = M.1 (sbo j + t) k := fun t k ht => z0 _ _ (fun q => by have := hne 0 t (by omega) ht; omega)
  refine ⟨M3, ?_, ⟨⟨fun o ho => funext fun k => ?_, fun o ho _ => ?_, fun o _ => by rw [c2, r22], by rw [c2, r22]⟩, by rw [c2, r22], ?_, fun k hk => ?_, fun w k hw hk => ?_, fun w k hw hk => ?_, fun k hk => ?_, fun k hk => ⟨?_, ?_⟩⟩, R2.to (c3 _ _ (by omega)) (by rw [c2]), fun k t hk ht => ?_⟩
  · have e1 : fX5_copy K (hp a M) (a + sbo i) (some (a + sbo j)) = fX5_copy_26 K (a + sbo i) FU (hp a M0) (some (a + sbo j)) 0 := by
      have y1 : (mI M (sbo i) 0 (M.1 (sbo j) 0)).1 (sbo j) 1 = M.1 (sbo j) 1 := mI_n (by omega)
      have y2 : (mI (mI M (sbo i) 0 (M.1 (sbo j) 0)) (sbo i) 1 (M.1 (sbo j) 1)).1 (sbo j) 2 = M.1 (sbo j) 2 := by rw [mI_n (by omega), mI_n (by omega)]
      simp only [fX5_copy, s_g0 hj, bsm, s_p0 hi, s_g1 hj, y1, s_p1 hi, s_g2 hj, y2, s_p2 hi]
      rfl
    rw [e1, a1, b1, c1]
  · rw [c3 _ _ (by omega), b3 _ _ (by omega) (by omega), a3 _ _ (by omega), z0 _ _ (by omega)]
  · rw [c2, b4 _ (by omega), a2]
    rfl
  · rw [c2, b4 _ (by omega), a2]
    rfl
  · rw [c3 _ _ (by omega)]
    exact f0 k hk
  · rw [c3 _ _ (by omega), b3 _ _ (by omega) (by omega), a4 w k hw hk, sj0 _ _ (by omega)]
  · rw [c3 _ _ (by omega), b3 _ _ (by omega) (by omega), a5 w k hw hk, sj0 _ _ (by omega)]
  · rw [c3 _ _ (by omega), (b5 k hk).1, sj1 _ _ (by omega)]
  · rw [c2]
    exact (b5 k hk).2.1
  · rw [c3 _ _ (by omega)]
    exact (b5 k hk).2.2
  · have := (R.2.2.1 k (by have := R.1; omega)).1
    have h1 := hne 15 (17 + π' k) (by omega) (by omega)
    have h2 := hne 58 (17 + π' k) (by omega) (by omega)
    rw [c4 k t hk ht, b3 _ _ (by omega) (by omega), sj1 _ _ (by omega)]
end PCP

/-! PLAIN LAW, hours ahead: both sides -/
set_option maxRecDepth 100000
/-- k hours are over since M0, σ0 -/
def HJ (a : Nat) (M0 : CM) (σ0 : MS) (i np : Nat) (pt : Nat → Nat) (hr : Nat) (pl : Prop) (B k : Nat) (M : CM) (σ : MS) : Prop := SR M i (σ.2.2.1 54) np pt (hr + k) ∧ (∃ π kp, RS a M i π kp ∧ (σ0.1 60 = 0 → KR M i (σ.2.2.1 54) π kp)) ∧ (pl → PR (fun _ => B + 600 * k) M i σ) ∧ MF i M0 M ∧ TF σ0 σ ∧ (σ0.1 60 ≠ 0 → T96 σ0 σ)
section PAH
variable {K : KE} {a i j n k f p w m nk nf np hr kp B : Nat} {M M0 M' M1 M2 : CM} {σ σ0 σ' σ1 σ2 : MS} {pt : Nat → Nat} {π : Nat → Nat} {vl vf vm : Option Nat} {pl : Prop}
theorem HJ.zero (S : SR M i (σ.2.2.1 54) np pt hr) (R : RS a M i π kp) (hR : σ.1 60 = 0 → KR M i (σ.2.2.1 54) π kp) (hpl : pl → PR (fun _ => B) M i σ) : HJ a M σ i np pt hr pl B 0 M σ := ⟨S, ⟨π, kp, R, hR⟩, hpl, MF.refl i M, TF.refl σ, fun _ _ _ => rfl⟩
theorem HJ.step (X : HX a M0 σ0 nk nf np pt vl vf vm) (H : HTs K a M0.2.2.2.1 σ0 vl vf vm) (hi : i < 22) (hb : hr + k + 1 < 30000) (hB : B + 600 * k < 1000000000) (J : HJ a M0 σ0 i np pt hr pl B k M σ) : ∃ M' σ' c, c ≤ np ∧ fX5_passes K (hp a M) (a + sbo i) = some (hp a M', nI c) ∧ fX6_hourGoes σ = some (σ', nI c) ∧ HJ a M0 σ0 i np pt hr pl B (k + 1) M' σ' ∧ SN M' i σ' nf np := by
  obtain ⟨S, ⟨π, kp, R, hR⟩, P, F, T, Q⟩ := J
  have h60 : σ.1 60 = σ0.1 60 := T.1 60 (by omega) (by omega) (by omega) (by omega) (by omega)
  obtain ⟨M', σ', c, c1, e1, e2, ⟨S', ⟨π', kp', R', hR'⟩, P', F', T', Q', N'⟩⟩ := passes_ok (K := K) (X.to (F.same hi) T.up.up) (by rw [(F.same hi).2]; exact H.up T.up.up) hi hb S R (fun h => hR (by rw [← h60]; exact h)) pl hB P
  refine ⟨M', σ', c, c1, e1, e2, ⟨S', ⟨π', kp', R', fun h => hR' (by rw [h60]; exact h)⟩, fun h p hp => ?_, F.tr F', T.tr T', fun h q hq => ?_⟩, N'⟩
  · obtain ⟨w1, w2, w3, w4⟩ := P' h p hp
    have w5 := bq_le (B + 600 * k) np p
    exact ⟨w1, w2, by show -((B + 600 * (k + 1) : Nat) : Int) ≤ _; omega, by show _ ≤ ((B + 600 * (k + 1) : Nat) : Int); omega⟩
  · rw [Q' (by rw [h60]; exact h) q hq]
    exact Q h q hq
theorem zero_ok (σ : MS) (x y : Int32) : ∃ σ', fX6_hoursGo_4 FU σ x y 0 = fX6_hoursGo_31 FU σ' x y 0 ∧ σ'.1 = σ.1 ∧ σ'.2.1 = σ.2.1 ∧ (∀ k, k ≠ 63 → σ'.2.2.1 k = σ.2.2.1 k) ∧ (∀ k, k ≠ 62 → σ'.2.2.2 k = σ.2.2.2 k) ∧ ∀ p, p < 5 → σ'.2.2.2 62 p = 0 ∧ σ'.2.2.1 63 p = 0 := by
  refine lp1z (F := fun n (s : MS) k => fX6_hoursGo_4 n s x y k) (N := 5) (I := fun q s => s.1 = σ.1 ∧ s.2.1 = σ.2.1 ∧ (∀ k, k ≠ 63 → s.2.2.1 k = σ.2.2.1 k) ∧ (∀ k, k ≠ 62 → s.2.2.2 k = σ.2.2.2 k) ∧ ∀ p, p < q → s.2.2.2 62 p = 0 ∧ s.2.2.1 63 p = 0) (P := fun r => ∃ σ', r = fX6_hoursGo_31 FU σ' x y 0 ∧ σ'.1 = σ.1 ∧ σ'.2.1 = σ.2.1 ∧ (∀ k, k ≠ 63 → σ'.2.2.1 k = σ.2.2.1 k) ∧ (∀ k, k ≠ 62 → σ'.2.2.2 k = σ.2.2.2 k) ∧ ∀ p, p < 5 → σ'.2.2.2 62 p = 0 ∧ σ'.2.2.1 63 p = 0) (by omega) ⟨rfl, rfl, fun _ _ => rfl, fun _ _ => rfl, fun p hp => absurd hp (by omega)⟩ ?_ ?_
  · rintro n s q hq ⟨h1, h2, h3, h4, h5⟩
    have kk : ¬ (5 : Int32) ≤ nI q := nI_ge (b := 5) hq (by omega)
    refine Or.inl ⟨sA (sB s 62 q 0) 63 q 0, ⟨h1, h2, fun k hk => by rw [sA_n hk]; exact h3 k hk, fun k hk => by rw [sA_4, sB_n hk]; exact h4 k hk, fun p hp => ?_⟩, ?_⟩
    · rw [sA_4, sB_e, sA_e]
      by_cases e : p = q
      · rw [if_pos e, if_pos e]; exact ⟨rfl, rfl⟩
      · rw [if_neg e, if_neg e]
        exact h5 p (by omega)
    · simp only [fX6_hoursGo_4, if_neg kk, tp62 hq, tp63 hq, bsm, nI_1]
  · rintro n s ⟨h1, h2, h3, h4, h5⟩
    have kk : (5 : Int32) ≤ nI 5 := by decide
    exact ⟨s, by simp only [fX6_hoursGo_4, if_pos kk], h1, h2, h3, h4, h5⟩
/-- n hours of a State that was just copied -/
theorem hours_ok (X : HX a M σ nk nf np pt vl vf vm) (H : HTs K a M.2.2.2.1 σ vl vf vm) (hi : i < 22) (hn : n ≤ 100) (hb : hr ≤ 24000) (S : SR M i (σ.2.2.1 54) np pt hr) (R : RS a M i π kp) (hR : σ.1 60 = 0 → KR M i (σ.2.2.1 54) π kp) (hz : ∀ k, k < 5 → M.2.1 (sbo i + 57) k = 0 ∧ M.1 (sbo i + 58) k = 0) : ∃ M' σ' v, fX5_hours K (hp a M) (a + sbo i) (nI n) = some (hp a M', some (a + sbo i)) ∧ fX6_hoursGo σ (nI n) = some (σ', v) ∧ HJ a M σ i np pt hr True 0 n M' σ' := by
  have b := X.bk
  obtain ⟨σ0, z1, z2, z3, z4, z5, z6⟩ := zero_ok σ (nI n) 0
  have T0 : TF σ σ0 := ⟨fun k _ _ _ _ _ => by rw [z2], z3, fun k _ _ q => z4 k q, fun k q _ => z5 k q⟩
  have X0 := X.to (SameH.refl M) T0.up.up
  have H0 := H.up T0.up.up
  have e54 : σ0.2.2.1 54 = σ.2.2.1 54 := z4 54 (by omega)
  have e60 : σ0.1 60 = σ.1 60 := by rw [z2]
  have J0 : HJ a M σ0 i np pt hr True 0 0 M σ0 := HJ.zero (by rw [e54]; exact S) R (fun h => by rw [e54]; exact hR (by rw [← e60]; exact h)) (fun _ p hp => ⟨by rw [(hz p hp).1, (z6 p hp).1], by rw [(hz p hp).2, (z6 p hp).2], by rw [(z6 p hp).1]; exact (by decide : -((0 : Nat) : Int) ≤ Int64.toInt 0), by rw [(z6 p hp).1]; exact (by decide : Int64.toInt 0 ≤ ((0 : Nat) : Int))⟩)
  have key : ∃ M' σ' v, fX5_hours_2 K (a + sbo i) FU (hp a M) (nI n) 0 = some (hp a M', some (a + sbo i)) ∧ fX6_hoursGo_31 FU σ0 (nI n) 0 0 = some (σ', v) ∧ HJ a M σ0 i np pt hr True 0 n M' σ' := by
    refine lp2z (F := fun f (x : HS) k => fX5_hours_2 K (a + sbo i) f x (nI n) k) (G := fun f (y : MS × Int32) k => fX6_hoursGo_31 f y.1 (nI n) y.2 k) (N := n) (x := hp a M) (y := (σ0, 0)) (I := fun k x y => ∃ M' σ' v, x = hp a M' ∧ y = (σ', v) ∧ HJ a M σ0 i np pt hr True 0 k M' σ') (P := fun r r' => ∃ M' σ' v, r = some (hp a M', some (a + sbo i)) ∧ r' = some (σ', v) ∧ HJ a M σ0 i np pt hr True 0 n M' σ') (by omega) ⟨M, σ0, 0, rfl, rfl, J0⟩ ?_ ?_
    · rintro f1 f2 x y k hk ⟨M', σ', v, rfl, rfl, J⟩
      have kk := nI_ge hk (show n < 2 ^ 31 by omega)
      obtain ⟨M2, σ2, c, c1, c2, c3, c4, -⟩ := J.step (K := K) X0 H0 hi (by omega) (by omega)
      refine Or.inl ⟨hp a M2, (σ2, v + nI c), ⟨M2, σ2, v + nI c, rfl, rfl, c4⟩, ?_, ?_⟩
      · simp only [fX5_hours_2, if_neg kk, s_rcv hi, bsm, c2, nI_1]
      · simp only [fX6_hoursGo_31, if_neg kk, c3, bsm, nI_1]
    · rintro f1 f2 x y ⟨M', σ', v, rfl, rfl, J⟩
      have kk := nI_le (Nat.le_refl n) (show n < 2 ^ 31 by omega)
      exact ⟨M', σ', v, by simp only [fX5_hours_2, if_pos kk], by simp only [fX6_hoursGo_31, if_pos kk], J⟩
  obtain ⟨M', σ', v, k1, k2, S', R', P', F', T', Q'⟩ := key
  refine ⟨M', σ', v, k1, by unfold fX6_hoursGo; rw [z1, k2], S', ?_, P', F', T0.tr T', fun h j hj => ?_⟩
  · obtain ⟨π', kp', q1, q2⟩ := R'
    exact ⟨π', kp', q1, fun h => q2 (by rw [e60]; exact h)⟩
  · rw [Q' (by rw [e60]; exact h) j hj, e54]
-- the twin's rows
theorem aside_ok (σ : MS) : ∃ σ', fX6_putsAside σ = some σ' ∧ σ'.1 60 = 1 ∧ (∀ k, k ≠ 60 → σ'.1 k = σ.1 k) ∧ σ'.2.1 = σ.2.1 ∧ (∀ k, k ≠ 55 → σ'.2.2.1 k = σ.2.2.1 k) ∧ σ'.2.2.2 = σ.2.2.2 ∧ ∀ j, j < 96 → σ'.2.2.1 55 j = σ.2.2.1 54 j := by
  refine lp1z (F := fun n (s : MS) k => fX6_putsAside_7 n s k) (N := 96) (x := sI σ 60 1) (I := fun q s => s.1 60 = 1 ∧ (∀ k, k ≠ 60 → s.1 k = σ.1 k) ∧ s.2.1 = σ.2.1 ∧ (∀ k, k ≠ 55 → s.2.2.1 k = σ.2.2.1 k) ∧ s.2.2.2 = σ.2.2.2 ∧ ∀ j, j < q → s.2.2.1 55 j = σ.2.2.1 54 j) (P := fun r => ∃ σ', r = some σ' ∧ σ'.1 60 = 1 ∧ (∀ k, k ≠ 60 → σ'.1 k = σ.1 k) ∧ σ'.2.1 = σ.2.1 ∧ (∀ k, k ≠ 55 → σ'.2.2.1 k = σ.2.2.1 k) ∧ σ'.2.2.2 = σ.2.2.2 ∧ ∀ j, j < 96 → σ'.2.2.1 55 j = σ.2.2.1 54 j) (by omega) ⟨sI_s, fun k hk => sI_n hk, rfl, fun _ _ => rfl, rfl, fun j hj => absurd hj (by omega)⟩ ?_ ?_
  · rintro n s q hq ⟨h1, h2, h3, h4, h5, h6⟩
    have kk : ¬ (96 : Int32) ≤ nI q := nI_ge (b := 96) hq (by omega)
    refine Or.inl ⟨sA s 55 q (σ.2.2.1 54 q), ⟨h1, h2, h3, fun k hk => by rw [sA_n hk]; exact h4 k hk, h5, fun j hj => ?_⟩, ?_⟩
    · rw [sA_e]
      by_cases e : j = q
      · rw [if_pos e, e]
      · rw [if_neg e]
        exact h6 j (by omega)
    · simp only [fX6_putsAside_7, if_neg kk, tg54 (i := q) (by omega), h4 54 (by omega), bsm, tp55 hq, nI_1]
  · rintro n s ⟨h1, h2, h3, h4, h5, h6⟩
    have kk : (96 : Int32) ≤ nI 96 := by decide
    exact ⟨s, by simp only [fX6_putsAside_7, if_pos kk], h1, h2, h3, h4, h5, h6⟩
theorem anew_ok (σ : MS) : ∃ σ', fX6_triesAnew σ = some σ' ∧ σ'.1 = σ.1 ∧ σ'.2.1 = σ.2.1 ∧ (∀ k, k ≠ 54 → σ'.2.2.1 k = σ.2.2.1 k) ∧ σ'.2.2.2 = σ.2.2.2 ∧ ∀ j, σ'.2.2.1 54 j = if j < 96 then σ.2.2.1 55 j else σ.2.2.1 54 j := by
  refine lp1z (F := fun n (s : MS) k => fX6_triesAnew_2 n s k) (N := 96) (x := σ) (I := fun q s => s.1 = σ.1 ∧ s.2.1 = σ.2.1 ∧ (∀ k, k ≠ 54 → s.2.2.1 k = σ.2.2.1 k) ∧ s.2.2.2 = σ.2.2.2 ∧ ∀ j, s.2.2.1 54 j = if j < q then σ.2.2.1 55 j else σ.2.2.1 54 j) (P := fun r => ∃ σ', r = some σ' ∧ σ'.1 = σ.1 ∧ σ'.2.1 = σ.2.1 ∧ (∀ k, k ≠ 54 → σ'.2.2.1 k = σ.2.2.1 k) ∧ σ'.2.2.2 = σ.2.2.2 ∧ ∀ j, σ'.2.2.1 54 j = if j < 96 then σ.2.2.1 55 j else σ.2.2.1 54 j) (by omega) ⟨rfl, rfl, fun _ _ => rfl, rfl, fun j => by rw [if_neg (by omega)]⟩ ?_ ?_
  · rintro n s q hq ⟨h1, h3, h4, h5, h6⟩
    have kk : ¬ (96 : Int32) ≤ nI q := nI_ge (b := 96) hq (by omega)
    refine Or.inl ⟨sA s 54 q (σ.2.2.1 55 q), ⟨h1, h3, fun k hk => by rw [sA_n hk]; exact h4 k hk, h5, fun j => ?_⟩, ?_⟩
    · rw [sA_e, h6]
      by_cases e : j = q
      · rw [if_pos e, if_pos (by omega), e]
      · rw [if_neg e]
        by_cases e2 : j < q
        · rw [if_pos e2, if_pos (by omega)]
        · rw [if_neg e2, if_neg (by omega)]
    · simp only [fX6_triesAnew_2, if_neg kk, tg55 hq, h4 55 (by omega), bsm, tp54 (i := q) (by omega), nI_1]
  · rintro n s ⟨h1, h3, h4, h5, h6⟩
    have kk : (96 : Int32) ≤ nI 96 := by decide
    exact ⟨s, by simp only [fX6_triesAnew_2, if_pos kk], h1, h3, h4, h5, h6⟩
theorem pressAll_ok (X : HX a M σ nk nf np pt vl vf vm) (hm : m < 32) : ∃ σ', fX6_pressAll σ (nI m) = some σ' ∧ σ'.1 = σ.1 ∧ σ'.2.1 = σ.2.1 ∧ (∀ k, k ≠ 54 → σ'.2.2.1 k = σ.2.2.1 k) ∧ σ'.2.2.2 = σ.2.2.2 ∧ (∀ p, p < np → σ'.2.2.1 54 (86 + 2 * p) = nI (m / 2 ^ p % 2)) ∧ ∀ j, (∀ p, p < np → j ≠ 86 + 2 * p) → σ'.2.2.1 54 j = σ.2.2.1 54 j := by
  have b := X.bk
  refine lp1z (F := fun n (s : MS) k => fX6_pressAll_2 n s (nI m) k) (N := np) (x := σ) (I := fun q s => s.1 = σ.1 ∧ s.2.1 = σ.2.1 ∧ (∀ k, k ≠ 54 → s.2.2.1 k = σ.2.2.1 k) ∧ s.2.2.2 = σ.2.2.2 ∧ (∀ p, p < q → s.2.2.1 54 (86 + 2 * p) = nI (m / 2 ^ p % 2)) ∧ ∀ j, (∀ p, p < q → j ≠ 86 + 2 * p) → s.2.2.1 54 j = σ.2.2.1 54 j) (P := fun r => ∃ σ', r = some σ' ∧ σ'.1 = σ.1 ∧ σ'.2.1 = σ.2.1 ∧ (∀ k, k ≠ 54 → σ'.2.2.1 k = σ.2.2.1 k) ∧ σ'.2.2.2 = σ.2.2.2 ∧ (∀ p, p < np → σ'.2.2.1 54 (86 + 2 * p) = nI (m / 2 ^ p % 2)) ∧ ∀ j, (∀ p, p < np → j ≠ 86 + 2 * p) → σ'.2.2.1 54 j = σ.2.2.1 54 j) (by omega) ⟨rfl, rfl, fun _ _ => rfl, rfl, fun p hp => absurd hp (by omega), fun _ _ => rfl⟩ ?_ ?_
  · rintro n s q hq ⟨h1, h3, h4, h5, h6, h7⟩
    have kk := nI_ge hq (show np < 2 ^ 31 by omega)
    have up : UpE σ s := ⟨fun k hk => h4 k (by omega), by rw [h5]⟩
    refine Or.inl ⟨sA s 54 (86 + 2 * q) (nI (m / 2 ^ q % 2)), ⟨h1, h3, fun k hk => by rw [sA_n hk]; exact h4 k hk, h5, fun p hp => ?_, fun j hj => ?_⟩, ?_⟩
    · rw [sA_e]
      by_cases e : p = q
      · rw [if_pos (by omega), e]
      · rw [if_neg (by omega)]
        exact h6 p (by omega)
    · rw [sA_m (hj q (by omega))]
      exact h7 j (fun p hp => hj p (by omega))
    · simp only [fX6_pressAll_2, (X.to (SameH.refl M) up.up).persM, bsm, if_neg kk, ki86, ki2, nI_mul, nI_add, bit_m (show m < 2 ^ 31 by omega) (show q < 31 by omega), tp54 (i := 86 + 2 * q) (by omega), nI_1]
  · rintro n s ⟨h1, h3, h4, h5, h6, h7⟩
    have kk := nI_le (Nat.le_refl np) (show np < 2 ^ 31 by omega)
    have up : UpE σ s := ⟨fun k hk => h4 k (by omega), by rw [h5]⟩
    exact ⟨s, by simp only [fX6_pressAll_2, (X.to (SameH.refl M) up.up).persM, bsm, if_pos kk], h1, h3, h4, h5, h6, h7⟩
theorem SR.setP {g g' : Nat → Int32} (S : SR M i g np pt hr) (hm : m < 2 ^ np) (e1 : ∀ p, p < np → g' (86 + 2 * p) = nI (m / 2 ^ p % 2)) (e2 : ∀ j, j < 96 → (∀ p, p < np → j ≠ 86 + 2 * p) → g' j = g j) (hn : np ≤ 5) : SR (mI M (sbo i) 1 (nI m)) i g' np pt hr := by
  obtain ⟨⟨a1, a2, a3, a4⟩, -, b, c, d⟩ := S
  refine ⟨⟨by rw [mI_n (by omega)]; exact a1, by rw [e2 0 (by omega) (fun p _ => by omega)]; exact a2, by rw [e2 1 (by omega) (fun p _ => by omega)]; exact a3, a4⟩, ⟨m, hm, mI_s, e1⟩, fun w k hw hk => ?_, fun w k hw hk => ?_, fun p hp => ?_⟩
  · rw [mI_n (by omega), e2 _ (by omega) (fun p _ => by omega)]; exact b w k hw hk
  · rw [mI_n (by omega), e2 _ (by omega) (fun p _ => by omega)]; exact c w k hw hk
  · rw [mI_n (by omega), e2 _ (by omega) (fun p _ => by omega)]; exact d p hp
-- while it is only thought
/-- only what is tried has changed -/
def MU (M M' : CM) : Prop := (∀ o, o < 75 ∨ 134 ≤ o → M'.1 o = M.1 o) ∧ (∀ o, (o < 75 ∨ 167 ≤ o) → o ≠ 12 → M'.2.1 o = M.2.1 o) ∧ (∀ o, o ≠ 91 → M'.2.2.1 o = M.2.2.1 o) ∧ M'.2.2.2 = M.2.2.2
/-- the twin thinks; σ: before it began -/
def TH (σ σ' : MS) : Prop := σ'.1 60 = 1 ∧ (∀ k, k ≠ 53 → k ≠ 57 → k ≠ 58 → k ≠ 59 → k ≠ 98 → k ≠ 60 → σ'.1 k = σ.1 k) ∧ σ'.2.1 = σ.2.1 ∧ (∀ k, k ≠ 54 → k ≠ 55 → k ≠ 61 → k ≠ 63 → σ'.2.2.1 k = σ.2.2.1 k) ∧ (∀ k, k ≠ 62 → k ≠ 64 → k ≠ 97 → σ'.2.2.2 k = σ.2.2.2 k) ∧ (∀ j, j < 96 → σ'.2.2.1 55 j = σ.2.2.1 54 j) ∧ (∀ j, 96 ≤ j → σ'.2.2.1 54 j = σ.2.2.1 54 j)
theorem MU.refl (M : CM) : MU M M := ⟨fun _ _ => rfl, fun _ _ _ => rfl, fun _ _ => rfl, rfl⟩
theorem MU.tr (h : MU M M1) (g : MU M1 M2) : MU M M2 := ⟨fun o q => (g.1 o q).trans (h.1 o q), fun o q r => (g.2.1 o q r).trans (h.2.1 o q r), fun o q => (g.2.2.1 o q).trans (h.2.2.1 o q), g.2.2.2.trans h.2.2.2⟩
theorem MU.of (h : MF 1 M M') : MU M M' := by
  have e : sbo 1 = 75 := rfl
  exact ⟨fun o q => h.1 o (by omega), fun o q r => h.2.1 o (by omega) r, fun o q => h.2.2.1 o (by omega), h.2.2.2⟩
theorem MU.same (h : MU M M') : SameH M M' := ⟨by rw [h.2.2.1 0 (by omega)], by rw [h.2.2.2]⟩
theorem MU.me (h : MU M M') : ME M M' := ⟨fun o q => h.1 o (by omega), h.2.1 0 (by omega) (by omega), fun o q => h.2.2.1 o (by omega), h.2.2.2⟩
theorem TH.up (h : TH σ σ') : UpE σ σ' := ⟨fun k hk => h.2.2.2.1 k (by omega) (by omega) (by omega) (by omega), h.2.2.2.2.1 41 (by omega) (by omega) (by omega)⟩
theorem TH.tf (h : TH σ σ1) (g : TF σ1 σ2) (q : T96 σ1 σ2) : TH σ σ2 := ⟨by rw [g.1 60 (by omega) (by omega) (by omega) (by omega) (by omega)]; exact h.1, fun k a1 a2 a3 a4 a5 a6 => (g.1 k a1 a2 a3 a4 a5).trans (h.2.1 k a1 a2 a3 a4 a5 a6), g.2.1.trans h.2.2.1, fun k a1 a2 a3 a4 => (g.2.2.1 k a1 a3 a4).trans (h.2.2.2.1 k a1 a2 a3 a4), fun k a1 a2 a3 => (g.2.2.2 k a1 a3).trans (h.2.2.2.2.1 k a1 a2 a3), fun j hj => by rw [g.2.2.1 55 (by omega) (by omega) (by omega)]; exact h.2.2.2.2.2.1 j hj, fun j hj => (q j hj).trans (h.2.2.2.2.2.2 j hj)⟩
/-- it is thought of anew -/
theorem TH.anew (h : TH σ σ1) : ∃ σ2, fX6_triesAnew σ1 = some σ2 ∧ TH σ σ2 ∧ σ2.2.2.1 54 = σ.2.2.1 54 ∧ σ2.2.2.2 = σ1.2.2.2 ∧ σ2.2.2.1 63 = σ1.2.2.1 63 := by
  obtain ⟨σ2, e1, e2, e3, e4, e5, e6⟩ := anew_ok σ1
  have e7 : σ2.2.2.1 54 = σ.2.2.1 54 := funext fun j => by
    rw [e6]
    split
    · exact h.2.2.2.2.2.1 j (by omega)
    · exact h.2.2.2.2.2.2 j (by omega)
  refine ⟨σ2, e1, ⟨by rw [e2]; exact h.1, fun k a1 a2 a3 a4 a5 a6 => by rw [e2]; exact h.2.1 k a1 a2 a3 a4 a5 a6, e3.trans h.2.2.1, fun k a1 a2 a3 a4 => (e4 k a1).trans (h.2.2.2.1 k a1 a2 a3 a4), fun k a1 a2 a3 => by rw [e5]; exact h.2.2.2.2.1 k a1 a2 a3, fun j hj => by rw [e4 55 (by omega)]; exact h.2.2.2.2.2.1 j hj, fun j hj => by rw [e7]⟩, e7, e5, e4 63 (by omega)⟩
theorem th_aside (σ : MS) : ∃ σ1, fX6_putsAside σ = some σ1 ∧ TH σ σ1 ∧ σ1.2.2.1 54 = σ.2.2.1 54 := by
  obtain ⟨σ1, e1, e2, e3, e4, e5, e6, e7⟩ := aside_ok σ
  exact ⟨σ1, e1, ⟨e2, fun k _ _ _ _ _ h => e3 k h, e4, fun k _ h _ _ => e5 k h, fun k _ _ _ => by rw [e6], e7, fun j _ => by rw [e5 54 (by omega)]⟩, e5 54 (by omega)⟩
/-- and it is all over -/
theorem TH.back (h : TH σ σ1) (h0 : σ.1 60 = 0) : ∃ σ2, fX6_takesBack σ1 = some σ2 ∧ UpE σ σ2 ∧ TE σ σ2 ∧ σ2.2.2.1 54 = σ.2.2.1 54 ∧ σ2.2.2.2 = σ1.2.2.2 ∧ σ2.2.2.1 63 = σ1.2.2.1 63 := by
  obtain ⟨σ2, e1, e2, e3, e4, e5⟩ := h.anew
  refine ⟨sI σ2 60 0, by simp only [fX6_takesBack, e1, bsm], e2.up, ⟨fun k hk => ?_, by show σ2.2.1 70 = _; rw [e2.2.2.1], fun k hk => ?_⟩, e3, e4, e5⟩
  · by_cases q : k = 60
    · rw [q, sI_s, h0]
    · rw [sI_n q]
      exact e2.2.1 k (by omega) (by omega) (by omega) (by omega) (by omega) q
  · exact e2.2.2.2.1 k (by omega) (by omega) (by omega) (by omega)
theorem IV.think (X : HX a M σ nk nf np pt vl vf vm) (H : HTs K a M.2.2.2.1 σ vl vf vm) (N : KS a M 0 (σ.2.2.1 54) np pt) (E : RE K a M σ n nf np pt) (hM : MU M M') (R1 : ∃ π kp, RS a M' 1 π kp) (hu : UpE σ σ') (ht : TE σ σ') (e54 : σ'.2.2.1 54 = σ.2.2.1 54) : IV K a (hp a M') σ' n := by
  have b := X.bk
  refine ⟨M', nk, nf, np, pt, vl, vf, vm, rfl, X.to hM.same hu.up, by rw [hM.same.2]; exact H.up hu.up, N.nr b.2.2 (fun o h1 h2 => hM.1 o (by omega)) (hM.2.2.1 32 (by omega)) e54, E.fr b.2.2 hM.me ht ?_ R1⟩
  obtain ⟨π, kp, R⟩ := E.1 0 (by omega)
  exact ⟨π, kp, R.to (by rw [hM.1 _ (by show 16 < 75 ∨ _; omega)]) (hM.2.2.1 _ (by show 16 + 16 ≠ 91; omega))⟩
theorem ahead_ok (X : HX a M σ nk nf np pt vl vf vm) (S : SR M 0 (σ.2.2.1 54) np pt hr) {lo hi : Nat} (hlh : lo ≤ hi) (hl : hi < 1000) (x : Int32) : (∃ n, lo ≤ n ∧ n ≤ hi ∧ hr + n ≤ 23999 ∧ x = nI n ∧ (∀ M', MU M M' → fX0_isAhead K (hp a M') a x (nI lo) (nI hi) = some 1) ∧ fX6_isAhead σ x (nI lo) (nI hi) = some 1) ∨ ((∀ n, lo ≤ n → n ≤ hi → x = nI n → 23999 < hr + n) ∧ (∀ M', MU M M' → fX0_isAhead K (hp a M') a x (nI lo) (nI hi) = some 0) ∧ fX6_isAhead σ x (nI lo) (nI hi) = some 0) := by
  obtain ⟨⟨a1, a2, a3, a4⟩, -, -⟩ := S
  have i0 : 0 < 22 := by omega
  have c0 : ∀ M', MU M M' → M'.1 (sbo 0) 0 = nI hr := fun M' h => by rw [h.1 _ (by show 16 < 75 ∨ _; omega)]; exact a1
  by_cases h1 : x < nI lo ∨ nI hi < x
  · refine Or.inr ⟨fun n n1 n2 n3 => ?_, fun M' h => ?_, ?_⟩
    · exfalso
      rw [n3, nI_ltE (by omega) (by omega), nI_ltE (by omega) (by omega)] at h1
      omega
    · simp only [fX0_isAhead, c_is, if_pos h1, bsm, if_true]
    · simp only [fX6_isAhead, t_is, if_pos h1, bsm, if_true]
  · have h2 : ¬ x < 0 := fun q => h1 (Or.inl (by
      rw [Int32.lt_iff_toInt_lt] at q ⊢
      rw [nI_toInt (by omega)]
      have z : (0 : Int32).toInt = 0 := by decide
      omega))
    obtain ⟨j, j1, rfl⟩ := nI_of h2
    have h3 : ¬ (j < lo ∨ hi < j) := by
      rw [nI_ltE (by omega) (by omega), nI_ltE (by omega) (by omega)] at h1
      exact h1
    have kc : ((23999 : Int32) < nI hr + nI j) = (23999 < hr + j) := by
      rw [nI_add]
      exact nI_ltE (a := 23999) (by omega) (by omega)
    have kt : ((23999 : Int32) < (24 : Int32) * nI (hr / 24) + nI (hr % 24) + nI j) = (23999 < hr + j) := by
      rw [ki24, nI_mul, nI_add, nI_add, show 24 * (hr / 24) + hr % 24 + j = hr + j by omega]
      exact nI_ltE (a := 23999) (by omega) (by omega)
    have q0 : aI σ 54 (0 : Int32) = some (nI (hr / 24)) := by
      have z := tg54 (σ := σ) (i := 0) (by omega)
      rw [a2] at z
      exact z
    have q1 : aI σ 54 (1 : Int32) = some (nI (hr % 24)) := by
      have z := tg54 (σ := σ) (i := 1) (by omega)
      rw [a3] at z
      exact z
    by_cases h4 : 23999 < hr + j
    · refine Or.inr ⟨fun n n1 n2 n3 => ?_, fun M' h => ?_, ?_⟩
      · rw [nI_eqE j1 (by omega)] at n3
        omega
      · simp only [fX0_isAhead, c_is, if_neg h1, bsm, if_neg n01, x_g9, s_g0 i0, c0 M' h, kc, if_pos h4]
      · simp only [fX6_isAhead, t_is, if_neg h1, bsm, if_neg n01, q0, q1, kt, if_pos h4]
    · refine Or.inl ⟨j, by omega, by omega, by omega, rfl, fun M' h => ?_, ?_⟩
      · simp only [fX0_isAhead, c_is, if_neg h1, bsm, if_neg n01, x_g9, s_g0 i0, c0 M' h, kc, if_neg h4]
      · simp only [fX6_isAhead, t_is, if_neg h1, bsm, if_neg n01, q0, q1, kt, if_neg h4]
end PAH

/-! PLAIN LAW, who pressed -/
set_option maxRecDepth 100000
section PPD
variable {K : KE} {a i j n k f p w m nk nf np hr kp B : Nat} {M M0 M' M1 M2 : CM} {σ σ0 σ' σ1 σ2 : MS} {pt pt' : Nat → Nat} {π : Nat → Nat} {vl vf vm : Option Nat}
/-- the rows that were told: how many, hour, film, whether seen -/
def RW (M : CM) (σ : MS) (nf rw : Nat) (H F S : Nat → Nat) : Prop := rw ≤ 16 ∧ M.1 0 15 = nI rw ∧ σ.1 65 = nI rw ∧ ∀ k, k < rw → H k < 24 ∧ F k < nf ∧ S k < 2 ∧ M.1 167 k = nI (H k) ∧ σ.2.2.1 66 (3 * k) = nI (H k) ∧ M.1 168 k = nI (F k) ∧ σ.2.2.1 66 (3 * k + 1) = nI (F k) ∧ M.1 169 k = nI (S k) ∧ σ.2.2.1 66 (3 * k + 2) = nI (S k)
theorem RW.of (Z : ZW M σ nf) : ∃ rw H F S, RW M σ nf rw H F S := by
  obtain ⟨rw', q1, q2, q3, q4⟩ := Z
  refine ⟨rw', fun k => if h : k < rw' then Classical.choose (q4 k h) else 0, fun k => if h : k < rw' then Classical.choose (Classical.choose_spec (q4 k h)) else 0, fun k => if h : k < rw' then Classical.choose (Classical.choose_spec (Classical.choose_spec (q4 k h))) else 0, q1, q2, q3, fun k hk => ?_⟩
  simp only [dif_pos hk]
  exact Classical.choose_spec (Classical.choose_spec (Classical.choose_spec (q4 k hk)))
theorem RW.to {rw : Nat} {H F S : Nat → Nat} (Z : RW M σ nf rw H F S) (e1 : ∀ o, o = 0 ∨ o = 167 ∨ o = 168 ∨ o = 169 → M'.1 o = M.1 o) (e2 : σ'.1 65 = σ.1 65) (e3 : σ'.2.2.1 66 = σ.2.2.1 66) : RW M' σ' nf rw H F S := by
  obtain ⟨h1, h2, h3, h4⟩ := Z
  refine ⟨h1, by rw [e1 0 (by omega)]; exact h2, by rw [e2]; exact h3, fun k hk => ?_⟩
  rw [e1 167 (by omega), e1 168 (by omega), e1 169 (by omega), e3]
  exact h4 k hk
theorem last_ok {rw : Nat} {H F S : Nat → Nat} (Z : RW M σ nf rw H F S) : ∃ c, c ≤ 24 ∧ (rw = 0 → c = 0) ∧ fX0_lastHour K (hp a M) a = some (nI c - 1) ∧ fX6_lastHour σ = some (nI c - 1) := by
  obtain ⟨h1, h2, h3, h4⟩ := Z
  refine lp2z (F := fun n (s : Int32) k => fX0_lastHour_4 K (hp a M) a n s k) (G := fun n (s : Int32) k => fX6_lastHour_4 σ n s k) (N := rw) (x := -1) (y := -1) (I := fun k s s' => ∃ c, c ≤ 24 ∧ (k = 0 → c = 0) ∧ s = nI c - 1 ∧ s' = nI c - 1) (P := fun r r' => ∃ c, c ≤ 24 ∧ (rw = 0 → c = 0) ∧ r = some (nI c - 1) ∧ r' = some (nI c - 1)) (by omega) ⟨0, by omega, fun _ => rfl, by decide, by decide⟩ ?_ ?_
  · rintro f1 f2 s s' k hk ⟨c, c1, c2, rfl, rfl⟩
    refine Or.inl ?_
    have kk := nI_ge hk (show rw < 2 ^ 31 by omega)
    obtain ⟨q1, q2, q3, q4, q5, -⟩ := h4 k hk
    have z1 : aI σ 66 ((3 : Int32) * nI k) = some (nI (H k)) := by rw [ki3, nI_mul, tg66 (by omega), q5]
    have cc : (nI c - 1 < nI (H k)) = (c ≤ H k) := by rw [sub1_lt (by omega), nI_leE (by omega) (by omega)]
    by_cases hc : c ≤ H k
    · have lc : nI c - 1 < nI (H k) := by rw [cc]; exact hc
      have lt : ¬ nI (H k) ≤ nI c - 1 := by rw [Int32.le_iff_toInt_le]; rw [Int32.lt_iff_toInt_lt] at lc; omega
      have e : nI (H k) = nI (H k + 1) - 1 := by rw [nI_m1 (by omega), Nat.add_sub_cancel]
      refine ⟨nI (H k), nI (H k), ⟨H k + 1, by omega, fun h => by omega, e, e⟩, ?_, ?_⟩
      · simp only [fX0_lastHour_4, x_g15, h2, bsm, if_neg kk, x_g12, c_rowH (show k < 16 by omega), q4, fJ12_max, if_pos lc, nI_1]
      · simp only [fX6_lastHour_4, h3, if_neg kk, z1, bsm, if_neg lt, fX6_lastHour_33, nI_1]
    · have lc : ¬ nI c - 1 < nI (H k) := by rw [cc]; exact hc
      have lt : nI (H k) ≤ nI c - 1 := by rw [Int32.le_iff_toInt_le]; rw [Int32.lt_iff_toInt_lt] at lc; omega
      refine ⟨nI c - 1, nI c - 1, ⟨c, c1, fun h => by omega, rfl, rfl⟩, ?_, ?_⟩
      · simp only [fX0_lastHour_4, x_g15, h2, bsm, if_neg kk, x_g12, c_rowH (show k < 16 by omega), q4, fJ12_max, if_neg lc, nI_1]
      · simp only [fX6_lastHour_4, h3, if_neg kk, z1, bsm, if_pos lt, fX6_lastHour_33, nI_1]
  · rintro f1 f2 s s' ⟨c, c1, c2, rfl, rfl⟩
    have kk := nI_le (Nat.le_refl rw) (show rw < 2 ^ 31 by omega)
    exact ⟨c, c1, c2, by simp only [fX0_lastHour_4, x_g15, h2, bsm, if_pos kk], by simp only [fX6_lastHour_4, h3, if_pos kk]⟩
theorem seenNow_ok (X : HX a M σ nk nf np pt vl vf vm) {sn : Nat} (hf : f < nf) (h : sn / 2 ^ f % 2 = 1 ↔ ∃ p, p < np ∧ σ.2.2.1 61 p = nI f) : fX6_isSeenNow σ (nI f) = some (nI (sn / 2 ^ f % 2)) := by
  have b := X.bk
  refine lp1z (F := fun n (s : Unit) k => fX6_isSeenNow_2 σ n (nI f) k) (N := np) (x := ()) (I := fun k _ => ∀ p, p < k → ¬ σ.2.2.1 61 p = nI f) (P := fun r => r = some (nI (sn / 2 ^ f % 2))) (by omega) (fun p hp => absurd hp (by omega)) ?_ ?_
  · rintro g s k hk h1
    have kk := nI_ge hk (show np < 2 ^ 31 by omega)
    by_cases e : σ.2.2.1 61 k = nI f
    · refine Or.inr ?_
      rw [h.mpr ⟨k, hk, e⟩]
      simp only [fX6_isSeenNow_2, X.persM, bsm, if_neg kk, tg61 (i := k) (show k < 5 by omega), if_pos e]
      rfl
    · refine Or.inl ⟨(), fun p hp => ?_, ?_⟩
      · by_cases z : p = k
        · rw [z]; exact e
        · exact h1 p (by omega)
      · simp only [fX6_isSeenNow_2, X.persM, bsm, if_neg kk, tg61 (i := k) (show k < 5 by omega), if_neg e, nI_1]
  · rintro g s h1
    have kk := nI_le (Nat.le_refl np) (show np < 2 ^ 31 by omega)
    have e : sn / 2 ^ f % 2 = 0 := by
      rcases Nat.mod_two_eq_zero_or_one (sn / 2 ^ f) with e | e
      · exact e
      · obtain ⟨p, p1, p2⟩ := h.mp e
        exact absurd p2 (h1 p p1)
    rw [e]
    simp only [fX6_isSeenNow_2, X.persM, bsm, if_pos kk]
    rfl
/-- a row that was not as told at hour h -/
def mis (H F S : Nat → Nat) (sn h k : Nat) : Prop := H k = h ∧ sn / 2 ^ F k % 2 ≠ S k
theorem told_c {rw sn h : Nat} {H F S : Nat → Nat} (hn8 : nf ≤ 8) (Z : RW M σ nf rw H F S) (hs : sn < 256) (hh : h < 24) (e9 : M.1 (sbo 1) 9 = nI sn) (x : Int32) (kc : HS → Int32 → Int32 → Option (HS × Int32)) : ((∃ k, k < rw ∧ mis H F S sn h k) ∧ fX0_isAsTold_38 K a kc FU (hp a M) x (nI h) 0 = some (hp a M, 0)) ∨ ((∀ k, k < rw → ¬ mis H F S sn h k) ∧ fX0_isAsTold_38 K a kc FU (hp a M) x (nI h) 0 = kc (hp a M) x (nI (h + 1))) := by
  obtain ⟨h1, h2, h3, h4⟩ := Z
  have i1 : 1 < 22 := by omega
  refine lp1z (F := fun n (s : Unit) k => fX0_isAsTold_38 K a kc n (hp a M) x (nI h) k) (N := rw) (x := ()) (I := fun q _ => ∀ k, k < q → ¬ mis H F S sn h k) (P := fun r => ((∃ k, k < rw ∧ mis H F S sn h k) ∧ r = some (hp a M, 0)) ∨ ((∀ k, k < rw → ¬ mis H F S sn h k) ∧ r = kc (hp a M) x (nI (h + 1)))) (by omega) (fun k hk => absurd hk (by omega)) ?_ ?_
  · rintro g s k hk hI
    have kk := nI_ge hk (show rw < 2 ^ 31 by omega)
    obtain ⟨q1, q2, q3, q4, q5, q6, q7, q8, q9⟩ := h4 k hk
    have next : ¬ mis H F S sn h k → ∀ k', k' < k + 1 → ¬ mis H F S sn h k' := fun z k' hk' => by
      by_cases e : k' = k
      · rw [e]; exact z
      · exact hI k' (by omega)
    by_cases e : H k = h
    · have e' : nI (H k) = nI h := congrArg nI e
      by_cases e2 : sn / 2 ^ F k % 2 = S k
      · refine Or.inl ⟨(), next (fun z => z.2 e2), ?_⟩
        simp only [fX0_isAsTold_38, x_g15, h2, bsm, if_neg kk, x_g12, c_rowH (show k < 16 by omega), q4, if_pos e', x_g10, s_g9 i1, e9, x_g13, c_rowF (show k < 16 by omega), q6, c_has K (hp a M) (show sn < 2 ^ 31 by omega) (show F k < 31 by omega), x_g14, c_rowS (show k < 16 by omega), q8, e2, if_true, fX0_isAsTold_87, nI_1]
      · have e3 : ¬ nI (sn / 2 ^ F k % 2) = nI (S k) := by rw [nI_eqE (by omega) (by omega)]; exact e2
        refine Or.inr (Or.inl ⟨⟨k, hk, e, e2⟩, ?_⟩)
        simp only [fX0_isAsTold_38, x_g15, h2, bsm, if_neg kk, x_g12, c_rowH (show k < 16 by omega), q4, if_pos e', x_g10, s_g9 i1, e9, x_g13, c_rowF (show k < 16 by omega), q6, c_has K (hp a M) (show sn < 2 ^ 31 by omega) (show F k < 31 by omega), x_g14, c_rowS (show k < 16 by omega), q8, if_neg e3]
    · have e' : ¬ nI (H k) = nI h := by rw [nI_eqE (by omega) (by omega)]; exact e
      refine Or.inl ⟨(), next (fun z => e z.1), ?_⟩
      simp only [fX0_isAsTold_38, x_g15, h2, bsm, if_neg kk, x_g12, c_rowH (show k < 16 by omega), q4, if_neg e', fX0_isAsTold_87, nI_1]
  · rintro g s hI
    have kk := nI_le (Nat.le_refl rw) (show rw < 2 ^ 31 by omega)
    refine Or.inr ⟨hI, ?_⟩
    simp only [fX0_isAsTold_38, x_g15, h2, bsm, if_pos kk, nI_1]
theorem told_t {rw sn h : Nat} {H F S : Nat → Nat} (X : HX a M σ nk nf np pt vl vf vm) (Z : RW M σ nf rw H F S) (hh : h < 24) (hS : ∀ f, f < nf → (sn / 2 ^ f % 2 = 1 ↔ ∃ p, p < np ∧ σ.2.2.1 61 p = nI f)) (x : Int32) (kt : MS → Int32 → Int32 → Int32 → Option (MS × Int32)) : ((∃ k, k < rw ∧ mis H F S sn h k) ∧ fX6_isAsTold_33 kt FU σ 1 x (nI h) 0 = kt σ 0 x (nI (h + 1))) ∨ ((∀ k, k < rw → ¬ mis H F S sn h k) ∧ fX6_isAsTold_33 kt FU σ 1 x (nI h) 0 = kt σ 1 x (nI (h + 1))) := by
  have b := X.bk
  obtain ⟨h1, h2, h3, h4⟩ := Z
  refine lp1z (F := fun n (s : Int32) k => fX6_isAsTold_33 kt n σ s x (nI h) k) (N := rw) (x := 1) (I := fun q s => (s = 0 ∧ ∃ k, k < q ∧ mis H F S sn h k) ∨ (s = 1 ∧ ∀ k, k < q → ¬ mis H F S sn h k)) (P := fun r => ((∃ k, k < rw ∧ mis H F S sn h k) ∧ r = kt σ 0 x (nI (h + 1))) ∨ ((∀ k, k < rw → ¬ mis H F S sn h k) ∧ r = kt σ 1 x (nI (h + 1)))) (by omega) (Or.inr ⟨rfl, fun k hk => absurd hk (by omega)⟩) ?_ ?_
  · rintro g s k hk hI
    have kk := nI_ge hk (show rw < 2 ^ 31 by omega)
    obtain ⟨q1, q2, q3, q4, q5, q6, q7, q8, q9⟩ := h4 k hk
    have z1 : aI σ 66 ((3 : Int32) * nI k) = some (nI (H k)) := by rw [ki3, nI_mul, tg66 (by omega), q5]
    have z2 : aI σ 66 ((3 : Int32) * nI k + 1) = some (nI (F k)) := by rw [ki3, nI_mul, nI_1, tg66 (by omega), q7]
    have z3 : aI σ 66 ((3 : Int32) * nI k + 2) = some (nI (S k)) := by rw [ki3, nI_mul, ki2, nI_add, tg66 (by omega), q9]
    have sk := seenNow_ok X q2 (hS (F k) q2)
    have next : ¬ mis H F S sn h k → (s = 0 ∧ ∃ k', k' < k + 1 ∧ mis H F S sn h k') ∨ (s = 1 ∧ ∀ k', k' < k + 1 → ¬ mis H F S sn h k') := fun z => by
      rcases hI with ⟨e, k', k1, k2⟩ | ⟨e, k1⟩
      · exact Or.inl ⟨e, k', by omega, k2⟩
      · refine Or.inr ⟨e, fun k' hk' => ?_⟩
        by_cases e : k' = k
        · rw [e]; exact z
        · exact k1 k' (by omega)
    have st : fX6_isAsTold_33 kt (g + 1) σ s x (nI h) (nI k) = (if nI (H k) = nI h then (if nI (sn / 2 ^ F k % 2) = nI (S k) then fX6_isAsTold_33 kt g σ s x (nI h) (nI (k + 1)) else fX6_isAsTold_33 kt g σ 0 x (nI h) (nI (k + 1))) else fX6_isAsTold_33 kt g σ s x (nI h) (nI (k + 1))) := by
      simp only [fX6_isAsTold_33, h3, if_neg kk, z1, z2, z3, bsm, sk, fX6_isAsTold_91, fX6_isAsTold_96, nI_1]
      rcases (show S k = 0 ∨ S k = 1 by omega) with e | e <;> rw [e]
      · rw [if_neg (show ¬ nI 0 = 1 by decide)]
        rfl
      · rw [if_pos (show nI 1 = 1 by decide)]
        rfl
    refine Or.inl ?_
    by_cases e : H k = h
    · have e' : nI (H k) = nI h := congrArg nI e
      rw [if_pos e'] at st
      by_cases e2 : sn / 2 ^ F k % 2 = S k
      · rw [if_pos (congrArg nI e2)] at st
        exact ⟨s, next (fun z => z.2 e2), st⟩
      · have e3 : ¬ nI (sn / 2 ^ F k % 2) = nI (S k) := by rw [nI_eqE (by omega) (by omega)]; exact e2
        rw [if_neg e3] at st
        exact ⟨0, Or.inl ⟨rfl, k, by omega, e, e2⟩, st⟩
    · have e' : ¬ nI (H k) = nI h := by rw [nI_eqE (by omega) (by omega)]; exact e
      rw [if_neg e'] at st
      exact ⟨s, next (fun z => e z.1), st⟩
  · rintro g s hI
    have kk := nI_le (Nat.le_refl rw) (show rw < 2 ^ 31 by omega)
    rcases hI with ⟨rfl, k1⟩ | ⟨rfl, k1⟩
    · exact Or.inl ⟨k1, by simp only [fX6_isAsTold_33, h3, if_pos kk, nI_1]⟩
    · exact Or.inr ⟨k1, by simp only [fX6_isAsTold_33, h3, if_pos kk, nI_1]⟩
/-- whether all is as told if just these press -/
theorem asTold_ok {rw : Nat} {H F S : Nat → Nat} (X : HX a M σ nk nf np pt vl vf vm) (HH : HTs K a M.2.2.2.1 σ vl vf vm) (Z : RW M σ nf rw H F S) {c : Nat} (hc : c ≤ 24) (hcr : hr + c ≤ 24000) (hlast : ∀ M1 σ1, MU M M1 → TH σ σ1 → fX0_lastHour K (hp a M1) a = some (nI c - 1) ∧ fX6_lastHour σ1 = some (nI c - 1)) (hm : m < 2 ^ np) (S0 : SR M 0 (σ.2.2.1 54) np pt hr) (R0 : RS a M 0 π kp) (hM : MU M M1) (R1 : ∃ π kp, RS a M1 1 π kp) (T : TH σ σ1) (e54 : σ1.2.2.1 54 = σ.2.2.1 54) : ∃ M3 σ4 v, fX0_isAsTold K (hp a M1) a (nI m) = some (hp a M3, v) ∧ fX6_isAsTold σ1 (nI m) = some (σ4, v) ∧ (v = 0 ∨ v = 1) ∧ MU M M3 ∧ (∃ π kp, RS a M3 1 π kp) ∧ TH σ σ4 ∧ σ4.2.2.1 54 = σ.2.2.1 54 := by
  have b := X.bk
  have i1 : 1 < 22 := by omega
  obtain ⟨w1, w2⟩ := pw5 np (by omega)
  obtain ⟨M2, d1, d2, d3, ⟨π2, kp2, d4⟩, d5, d6⟩ := cpy_ok (K := K) S0 b.2.2 R0 hM R1
  obtain ⟨σ2, p1, p2, p3, p4, p5, p6, p7⟩ := pressAll_ok (X.to hM.same T.up.up) (show m < 32 by omega)
  have T2 : TH σ σ2 := T.tf ⟨fun k _ _ _ _ _ => by rw [p2], p3, fun k q _ _ => p4 k q, fun k _ _ => by rw [p5]⟩ (fun j hj => p7 j (fun p hp => by omega))
  have hM2 : MU M (mI M2 (sbo 1) 1 (nI m)) := d2.tr (MU.of ((MF.refl 1 M2).mI (by omega) (by omega)))
  have S2 : SR (mI M2 (sbo 1) 1 (nI m)) 1 (σ2.2.2.1 54) np pt hr := d3.setP hm p6 (fun j hj h => by rw [p7 j h, e54]) b.2.2
  have h60 : ¬ σ2.1 60 = 0 := by rw [T2.1]; decide
  have X2 := X.to hM2.same T2.up.up
  have H2 : HTs K a (mI M2 (sbo 1) 1 (nI m)).2.2.2.1 σ2 vl vf vm := by rw [hM2.same.2]; exact HH.up T2.up.up
  have J0 : HJ a (mI M2 (sbo 1) 1 (nI m)) σ2 1 np pt hr False 0 0 (mI M2 (sbo 1) 1 (nI m)) σ2 := HJ.zero S2 (d4.to (by rw [mI_n (by omega)]) rfl) (fun h => absurd h h60) (fun h => h.elim)
  have fin : ∀ k M3 σ3, HJ a (mI M2 (sbo 1) 1 (nI m)) σ2 1 np pt hr False 0 k M3 σ3 → MU M M3 ∧ (∃ π kp, RS a M3 1 π kp) ∧ TH σ σ3 := fun k M3 σ3 J => by
    obtain ⟨-, ⟨π', kp', R', -⟩, -, F, T, Q⟩ := J
    exact ⟨hM2.tr (MU.of F), ⟨π', kp', R'⟩, T2.tf T (Q h60)⟩
  obtain ⟨l1, -⟩ := hlast _ σ2 hM2 T2
  obtain ⟨-, l2⟩ := hlast M1 σ1 hM T
  have cmp : ∀ h, h < 2 ^ 31 → ((nI c - 1 < nI h) = (c ≤ h)) := fun h hh => by rw [sub1_lt (by omega), nI_leE (by omega) hh]
  have endT : ∀ k M3 σ3 v, (v = 0 ∨ v = 1) → HJ a (mI M2 (sbo 1) 1 (nI m)) σ2 1 np pt hr False 0 k M3 σ3 → ∃ σ4, fX6_isAsTold_108 σ3 v = some (σ4, v) ∧ TH σ σ4 ∧ σ4.2.2.1 54 = σ.2.2.1 54 := fun k M3 σ3 v hv J => by
    obtain ⟨-, -, T3⟩ := fin k M3 σ3 J
    obtain ⟨σ4, g1, g2, g3, -⟩ := T3.anew
    have z : zr v = some v := by rcases hv with h | h <;> rw [h] <;> rfl
    exact ⟨σ4, by simp only [fX6_isAsTold_108, g1, bsm, z], g2, g3⟩
  have main : ∀ d k M3 σ3 f1 f2, c - k < d → d ≤ f1 → d < f2 → k ≤ c → HJ a (mI M2 (sbo 1) 1 (nI m)) σ2 1 np pt hr False 0 k M3 σ3 → ∃ M4 σ4 v, fX0_isAsTold_22 K a f1 (hp a M3) (nI c - 1) (nI k) = some (hp a M4, v) ∧ fX6_isAsTold_15 f2 σ3 1 (nI c - 1) (nI k) = some (σ4, v) ∧ (v = 0 ∨ v = 1) ∧ MU M M4 ∧ (∃ π kp, RS a M4 1 π kp) ∧ TH σ σ4 ∧ σ4.2.2.1 54 = σ.2.2.1 54 := by
    intro d
    induction d with
    | zero => intro k M3 σ3 f1 f2 h1; omega
    | succ d ih =>
      intro k M3 σ3 f1 f2 h1 h2 h3 h4 J
      obtain ⟨g1, rfl⟩ : ∃ n, f1 = n + 1 := ⟨f1 - 1, by omega⟩
      obtain ⟨g2, rfl⟩ : ∃ n, f2 = n + 1 := ⟨f2 - 1, by omega⟩
      by_cases hk : c ≤ k
      · have lk : nI c - 1 < nI k := by rw [cmp k (by omega)]; exact hk
        obtain ⟨q1, q2, q3⟩ := fin k M3 σ3 J
        obtain ⟨σ4, u1, u2, u3⟩ := endT k M3 σ3 1 (Or.inr rfl) J
        exact ⟨M3, σ4, 1, by simp only [fX0_isAsTold_22, if_pos lk], by simp only [fX6_isAsTold_15, if_pos lk, u1], Or.inr rfl, q1, q2, u2, u3⟩
      · have lk : ¬ nI c - 1 < nI k := by rw [cmp k (by omega)]; exact hk
        obtain ⟨M4, σ4, cc, -, u1, u2, u3, ⟨sn, n1, n2, n3⟩⟩ := J.step (K := K) X2 H2 i1 (by omega) (by omega)
        obtain ⟨q1, q2, q3⟩ := fin (k + 1) M4 σ4 u3
        have Z4 : RW M4 σ4 nf rw H F S := Z.to (fun o ho => q1.1 o (by omega)) (q3.2.1 65 (by omega) (by omega) (by omega) (by omega) (by omega) (by omega)) (q3.2.2.2.1 66 (by omega) (by omega) (by omega) (by omega))
        have cs : fX0_isAsTold_22 K a (g1 + 1) (hp a M3) (nI c - 1) (nI k) = fX0_isAsTold_38 K a (fun h' b2 b3 => fX0_isAsTold_22 K a g1 h' b2 b3) FU (hp a M4) (nI c - 1) (nI k) 0 := by
          simp only [fX0_isAsTold_22, if_neg lk, x_g10, bsm, s_rcv i1, u1]
        have ts : fX6_isAsTold_15 (g2 + 1) σ3 1 (nI c - 1) (nI k) = fX6_isAsTold_33 (fun σ' b2 b3 b4 => fX6_isAsTold_15 g2 σ' b2 b3 b4) FU σ4 1 (nI c - 1) (nI k) 0 := by
          simp only [fX6_isAsTold_15, if_neg lk, if_neg n01, u2, bsm]
        rcases told_c (K := K) (a := a) b.2.1 Z4 n1 (show k < 24 by omega) n2 (nI c - 1) (fun h' b2 b3 => fX0_isAsTold_22 K a g1 h' b2 b3) with ⟨r1, r2⟩ | ⟨r1, r2⟩
        · rcases told_t (X.to q1.same q3.up.up) Z4 (show k < 24 by omega) n3 (nI c - 1) (fun σ' b2 b3 b4 => fX6_isAsTold_15 g2 σ' b2 b3 b4) with ⟨-, t2⟩ | ⟨t1, -⟩
          · obtain ⟨σ5, v1, v2, v3⟩ := endT (k + 1) M4 σ4 0 (Or.inl rfl) u3
            refine ⟨M4, σ5, 0, by rw [cs, r2], ?_, Or.inl rfl, q1, q2, v2, v3⟩
            rw [ts, t2]
            obtain ⟨g3, rfl⟩ : ∃ n, g2 = n + 1 := ⟨g2 - 1, by omega⟩
            by_cases hl : nI c - 1 < nI (k + 1)
            · simp only [fX6_isAsTold_15, if_pos hl, v1]
            · simp only [fX6_isAsTold_15, if_neg hl, if_true, v1]
          · obtain ⟨k', k1, k2⟩ := r1
            exact absurd k2 (t1 k' k1)
        · rcases told_t (X.to q1.same q3.up.up) Z4 (show k < 24 by omega) n3 (nI c - 1) (fun σ' b2 b3 b4 => fX6_isAsTold_15 g2 σ' b2 b3 b4) with ⟨⟨k', k1, k2⟩, -⟩ | ⟨-, t2⟩
          · exact absurd k2 (r1 k' k1)
          · rw [cs, ts, r2, t2]
            exact ih (k + 1) M4 σ4 g1 g2 (by omega) (by omega) (by omega) (by omega) u3
  obtain ⟨M4, σ4, v, v1, v2, v3⟩ := main 50 0 _ σ2 FU FU (by omega) (by show 50 ≤ 100000; omega) (by show 50 < 100000; omega) (by omega) J0
  refine ⟨M4, σ4, v, ?_, ?_, v3⟩
  · simp only [fX0_isAsTold, x_g10, x_g9, bsm, s_rcv i1, d1, s_p1 i1, x_rcv, l1]
    exact v1
  · simp only [fX6_isAsTold, l2, bsm, p1]
    exact v2
theorem all_a : ∀ n, n < 6 → ∀ m, m < 32 → m < 2 ^ n → (nI (2 ^ n) - 1) &&& nI m = nI m := by decide +kernel
theorem ps23 : PS23 K a (IV K a) := by
  intro h σ n x hn I
  have I' := I.next
  obtain ⟨M, nk, nf, np, pt, vl, vf, vm, rfl, X, H, N, E⟩ := I
  have hN := N
  obtain ⟨hr, π, kp, N1, N2, N3, N4⟩ := N
  have b := X.bk
  have i1 : 1 < 22 := by omega
  obtain ⟨w1, w2⟩ := pw5 np (by omega)
  have hs := shl1 np (by omega)
  obtain ⟨rw', HH, FF, SS, Z⟩ := RW.of E.2.2.2.2.2.1
  have hlast : ∃ c, c ≤ 24 ∧ (rw' = 0 → c = 0) ∧ ∀ M1 σ1, MU M M1 → TH σ σ1 ∨ σ1 = σ → fX0_lastHour K (hp a M1) a = some (nI c - 1) ∧ fX6_lastHour σ1 = some (nI c - 1) := by
    obtain ⟨c, c1, c2, c3, c4⟩ := last_ok (K := K) (a := a) Z
    refine ⟨c, c1, c2, fun M1 σ1 hM T => ?_⟩
    have Z1 : RW M1 σ1 nf rw' HH FF SS := by
      rcases T with T | T
      · exact Z.to (fun o ho => hM.1 o (by omega)) (T.2.1 65 (by omega) (by omega) (by omega) (by omega) (by omega) (by omega)) (T.2.2.2.1 66 (by omega) (by omega) (by omega) (by omega))
      · rw [T]; exact Z.to (fun o ho => hM.1 o (by omega)) rfl rfl
    have Z2 : RW M1 σ nf rw' HH FF SS := Z.to (fun o ho => hM.1 o (by omega)) rfl rfl
    have Z3 : RW M σ1 nf rw' HH FF SS := Z1.to (fun o ho => (hM.1 o (by omega)).symm) rfl rfl
    obtain ⟨c', d1, d2, d3, d4⟩ := last_ok (K := K) (a := a) Z2
    obtain ⟨c'', e1, e2, e3, e4⟩ := last_ok (K := K) (a := a) Z3
    rw [c4] at d4
    rw [c3] at e3
    exact ⟨by rw [d3, d4], by rw [e4, e3]⟩
  obtain ⟨c, hc, hc0, hl⟩ := hlast
  obtain ⟨lc, lt⟩ := hl M σ (MU.refl M) (Or.inr rfl)
  rcases rng K (hp a M) σ (show 3 < 2 ^ 31 by omega) x with ⟨j, j1, rfl, c3, t3⟩ | ⟨c3, t3⟩
  rotate_left
  · have c3' : fX0_is K (hp a M) x 0 2 = some 0 := c3
    have t3' : fX6_isIn σ x.toInt64 0 2 = some 0 := t3
    exact ⟨_, _, -1, by simp only [fX0_pressed, c3', bsm, if_true], by simp only [fX6_pressed, t3', bsm, if_true], I'⟩
  have c3' : fX0_is K (hp a M) (nI j) 0 2 = some 1 := c3
  have t3' : fX6_isIn σ (nI j).toInt64 0 2 = some 1 := t3
  have cl : nI c - 1 + 1 = nI c := Int32.sub_add_cancel _ _
  have e65 : σ.1 65 = nI rw' := Z.2.2.1
  have hrw := Z.1
  have tw : fX6_pressed σ (nI j) = (if rw' = 0 then fX6_pressed_37 σ (nI j) else (fX6_isAhead σ (nI c) 0 24).bind fun x5 => if x5 = 0 then some (σ, -1) else fX6_pressed_37 σ (nI j)) := by
    simp only [fX6_pressed, t3', bsm, if_neg n01, e65, lt, cl, nI_le0 (show rw' < 2 ^ 31 by omega)]
  rcases ahead_ok (K := K) X N2 (lo := 0) (hi := 24) (by omega) (by omega) (nI c) with ⟨q, q1, q2, q3, q4, c2, t2⟩ | ⟨q3, c2, t2⟩
  rotate_left
  · have c2' : fX0_isAhead K (hp a M) a (nI c) 0 24 = some 0 := c2 M (MU.refl M)
    have t2' : fX6_isAhead σ (nI c) 0 24 = some 0 := t2
    have h0 : ¬ rw' = 0 := fun z => by
      have := q3 c (by omega) hc rfl
      have := hc0 z
      omega
    exact ⟨_, _, -1, by simp only [fX0_pressed, c3', bsm, if_neg n01, x_rcv, lc, cl, c2', if_true], by rw [tw, if_neg h0, t2']; rfl, I'⟩
  have c2' : fX0_isAhead K (hp a M) a (nI c) 0 24 = some 1 := c2 M (MU.refl M)
  have t2' : fX6_isAhead σ (nI c) 0 24 = some 1 := t2
  have hqc : q = c := by
    rw [nI_eqE (by omega) (by omega)] at q4
    exact q4.symm
  have tw' : fX6_pressed σ (nI j) = fX6_pressed_37 σ (nI j) := by
    rw [tw]
    by_cases h0 : rw' = 0
    · rw [if_pos h0]
    · rw [if_neg h0, t2', bsm, if_neg n01]
  obtain ⟨σ1, s1, s2, s3⟩ := th_aside σ
  have key : ∃ M3 σ4 v, fX0_pressed_37 K a FU (hp a M) (nI j) 0 0 0 0 = some (hp a M3, v) ∧ fX6_pressed_58 FU σ1 (nI j) 0 (nI (2 ^ np) - 1) 0 0 = some (σ4, v) ∧ IV K a (hp a M3) σ4 (n + 1) := by
    refine lp2z (F := fun n (s : HS × Int32 × Int32 × Int32) k => fX0_pressed_37 K a n s.1 (nI j) s.2.1 s.2.2.1 s.2.2.2 k) (G := fun n (s : MS × Int32 × Int32 × Int32) k => fX6_pressed_58 n s.1 (nI j) s.2.1 s.2.2.1 s.2.2.2 k) (N := 2 ^ np) (x := (hp a M, 0, 0, 0)) (y := (σ1, 0, nI (2 ^ np) - 1, 0))
      (I := fun k s s' => ∃ M1 σ2 z al al' so, s = (hp a M1, nI z, al, so) ∧ s' = (σ2, nI z, al', so) ∧ z ≤ k ∧ (z = 0 → al = 0 ∧ al' = nI (2 ^ np) - 1) ∧ (z ≠ 0 → al = al') ∧ MU M M1 ∧ (∃ π kp, RS a M1 1 π kp) ∧ TH σ σ2 ∧ σ2.2.2.1 54 = σ.2.2.1 54)
      (P := fun r r' => ∃ M3 σ4 v, r = some (hp a M3, v) ∧ r' = some (σ4, v) ∧ IV K a (hp a M3) σ4 (n + 1)) (by omega) ⟨M, σ1, 0, 0, _, 0, rfl, rfl, by omega, fun _ => ⟨rfl, rfl⟩, fun h => absurd rfl h, MU.refl M, E.1 1 i1, s2, s3⟩ ?_ ?_
    · rintro f1 f2 s s' k hk ⟨M1, σ2, z, al, al', so, rfl, rfl, hz, hz0, hz1, hM, hR, T, e54⟩
      refine Or.inl ?_
      have kk := nI_ge hk (show 2 ^ np < 2 ^ 31 by omega)
      have pm : fX6_personMany σ2 = some (nI np) := (X.to hM.same T.up.up).persM
      obtain ⟨M3, σ4, v, d1, d2, d3, d4, d5, d6, d7⟩ := asTold_ok (K := K) X H Z hc (show hr + c ≤ 24000 by omega) (fun M1 σ1 h1 h2 => hl M1 σ1 h1 (Or.inl h2)) hk N2 N3 hM hR T e54
      rcases d3 with hv | hv
      · refine ⟨(hp a M3, nI z, al, so), (σ4, nI z, al', so), ⟨M3, σ4, z, al, al', so, rfl, rfl, by omega, hz0, hz1, d4, d5, d6, d7⟩, ?_, ?_⟩
        · simp only [fX0_pressed_37, x_rcv, bsm, X.people hM.same, hs, if_neg kk, d1, if_pos hv, fX0_pressed_84, nI_1]
        · simp only [fX6_pressed_58, pm, bsm, hs, if_neg kk, d2, if_pos hv, fX6_pressed_96, nI_1]
      · have hv0 : ¬ v = 0 := by rw [hv]; decide
        have ts : fX6_pressed_58 (f2 + 1) σ2 (nI j) (nI z) al' so (nI k) = fX6_pressed_58 f2 σ4 (nI j) (nI (z + 1)) (al' &&& nI k) (so ||| nI k) (nI (k + 1)) := by
          simp only [fX6_pressed_58, pm, bsm, hs, if_neg kk, d2, if_neg hv0, fX6_pressed_96, nI_1]
        by_cases hz' : z = 0
        · have z0 : nI z = 0 := by rw [hz']; rfl
          have al2 : al' &&& nI k = nI k := by rw [(hz0 hz').2]; exact all_a np (by omega) k (by omega) hk
          rw [al2] at ts
          refine ⟨(hp a M3, nI (z + 1), nI k, so ||| nI k), (σ4, nI (z + 1), nI k, so ||| nI k), ⟨M3, σ4, z + 1, _, _, _, rfl, rfl, by omega, fun h => by omega, fun _ => rfl, d4, d5, d6, d7⟩, ?_, ts⟩
          simp only [fX0_pressed_37, x_rcv, bsm, X.people hM.same, hs, if_neg kk, d1, if_neg hv0, if_pos z0, fX0_pressed_73, fX0_pressed_84, nI_1]
        · have z0 : ¬ nI z = 0 := by rw [nI_eq0 (by omega)]; exact hz'
          refine ⟨(hp a M3, nI (z + 1), al &&& nI k, so ||| nI k), (σ4, nI (z + 1), al' &&& nI k, so ||| nI k), ⟨M3, σ4, z + 1, _, _, _, rfl, rfl, by omega, fun h => by omega, fun _ => by rw [hz1 hz'], d4, d5, d6, d7⟩, ?_, ts⟩
          simp only [fX0_pressed_37, x_rcv, bsm, X.people hM.same, hs, if_neg kk, d1, if_neg hv0, if_neg z0, fX0_pressed_73, fX0_pressed_84, nI_1]
    · rintro f1 f2 s s' ⟨M1, σ2, z, al, al', so, rfl, rfl, hz, hz0, hz1, hM, hR, T, e54⟩
      have kk := nI_le (Nat.le_refl (2 ^ np)) (show 2 ^ np < 2 ^ 31 by omega)
      have pm : fX6_personMany σ2 = some (nI np) := (X.to hM.same T.up.up).persM
      obtain ⟨σ3, k1, k2, k3, k4, k5, k6⟩ := T.back E.2.2.2.2.2.2.2.2.2.1
      have fin := IV.think X H hN E.next hM hR k2 k3 k4
      by_cases h0 : nI j = 0
      · exact ⟨M1, σ3, nI z, by simp only [fX0_pressed_37, x_rcv, bsm, X.people hM.same, hs, if_pos kk, if_pos h0], by simp only [fX6_pressed_58, pm, bsm, hs, if_pos kk, k1, if_pos h0], fin⟩
      by_cases h1 : nI j = 1
      · refine ⟨M1, σ3, al, by simp only [fX0_pressed_37, x_rcv, bsm, X.people hM.same, hs, if_pos kk, if_neg h0, if_pos h1], ?_, fin⟩
        by_cases hz' : z = 0
        · have z0 : nI z = 0 := by rw [hz']; rfl
          simp only [fX6_pressed_58, pm, bsm, hs, if_pos kk, k1, if_neg h0, if_pos h1, if_pos z0, (hz0 hz').1]
        · have z0 : ¬ nI z = 0 := by rw [nI_eq0 (by omega)]; exact hz'
          simp only [fX6_pressed_58, pm, bsm, hs, if_pos kk, k1, if_neg h0, if_pos h1, if_neg z0, hz1 hz']
      · exact ⟨M1, σ3, so, by simp only [fX0_pressed_37, x_rcv, bsm, X.people hM.same, hs, if_pos kk, if_neg h0, if_neg h1], by simp only [fX6_pressed_58, pm, bsm, hs, if_pos kk, k1, if_neg h0, if_neg h1], fin⟩
  obtain ⟨M3, σ4, v, k1, k2, k3⟩ := key
  refine ⟨hp a M3, σ4, v, by simp only [fX0_pressed, c3', bsm, if_neg n01, x_rcv, lc, cl, c2', k1], ?_, k3⟩
  rw [tw']
  simp only [fX6_pressed_37, X.persM, bsm, s1, hs]
  exact k2
end PPD

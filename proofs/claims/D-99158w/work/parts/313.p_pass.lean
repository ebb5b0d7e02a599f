/-! PLAIN LAW, an hour: both sides -/
set_option maxRecDepth 100000
section PPS
variable {K : KE} {a i j k f p w n o s : Nat} {M M' M1 M2 : CM} {σ σ' σ1 σ2 : MS} {nk nf np hr kp : Nat} {pt : Nat → Nat} {π : Nat → Nat} {vl vf vm : Option Nat} {g : Nat → Int32}
theorem fade_in (X : HX a M σ nk nf np pt vl vf vm) (H : HTs K a M.2.2.2.1 σ vl vf vm) (hi : i < 22) (hw : w < 6) (hv : vf ≠ none) (S : SR M i (σ.2.2.1 54) np pt hr) (v : Int32) (kc : HS → Int32 → Int32 → Option (HS × Int32)) (kt : MS → Int32 → Option MS) :
    ∃ M' σ', fX5_passes_139 K (a + sbo i) kc FU (hp a M) v (nI w) 0 = kc (hp a M') v (nI (w + 1)) ∧ fX6_fade_23 kt FU σ (nI w) 0 = kt σ' (nI (w + 1)) ∧ SR M' i (σ'.2.2.1 54) np pt hr ∧ MG i M M' ∧ TG σ σ' := by
  have b := X.bk
  refine lp2z (F := fun n (x : HS) k => fX5_passes_139 K (a + sbo i) kc n x v (nI w) k) (G := fun n (y : MS) k => fX6_fade_23 kt n y (nI w) k) (N := nk)
    (I := fun _ x y => ∃ M' σ', x = hp a M' ∧ y = σ' ∧ SR M' i (σ'.2.2.1 54) np pt hr ∧ MG i M M' ∧ TG σ σ')
    (P := fun r r' => ∃ M' σ', r = kc (hp a M') v (nI (w + 1)) ∧ r' = kt σ' (nI (w + 1)) ∧ SR M' i (σ'.2.2.1 54) np pt hr ∧ MG i M M' ∧ TG σ σ') (by omega) ⟨M, σ, rfl, rfl, S, MG.refl i M, TG.refl σ⟩ ?_ ?_
  · rintro n m x σ' k hk ⟨M', _, rfl, rfl, S', G1, G2⟩
    refine Or.inl ?_
    have X' := X.to G1.same G2.up
    have H' : HTs K a M'.2.2.2.1 σ' vl vf vm := by rw [G1.same.2]; exact H.up G2.up
    obtain ⟨⟨a1', a2', a3', a4'⟩, -, t1', t2', t3'⟩ := id S'
    have kk := nI_ge hk (show nk < 2 ^ 31 by omega)
    obtain ⟨e1, tt, tt1, tt2⟩ := t1' w k hw (by omega)
    rw [tt2] at e1
    have e0 := SameH.refl M'
    obtain ⟨ha, g0, g2, g3, g4, g5, g9, g10, g11⟩ := X'.set K
    have T0 : TV σ' (sI σ' 58 (nI tt)) := (TV.refl σ').sI (k := 58) (by omega)
    obtain ⟨x, σ2, z1, z2, z3, z4⟩ := HT.tell (K := K) (f := 0) (M := M') (σ := sI σ' 58 (nI tt)) (M' := mL (mL M' 12 0 (nI (hr % 24)).toInt64) 12 1 (nI tt).toInt64) (w := 1) (by omega) (H'.2.1.up (by omega) T0.up) hv ⟨rfl, rfl⟩ (fun j hj hj8 => by
        rcases (show j = 0 ∨ j = 1 by omega) with h | h <;> subst h
        · rw [mL_n (Or.inr (by omega)), mL_s]; exact BD_n (by omega)
        · rw [mL_s]; exact BD_n (by omega)) (fun σ3 Q j hj hj8 => by
        rcases (show j = 0 ∨ j = 1 by omega) with h | h <;> subst h
        · rw [mL_n (Or.inr (by omega)), mL_s]; exact qp0 (by rw [Q.1]; exact a3') _
        · rw [mL_s, qp1, Q.2.2.1 58 (by omega) (by omega), sI_s])
    obtain ⟨r, r1, r2, r3, -, -⟩ := cut_o K (hp a (mL (mL M' 12 0 (nI (hr % 24)).toInt64) 12 1 (nI tt).toInt64)) (a + sbo i) σ2 x
    have T2 : TV σ' σ2 := T0.tr (TV.of z3)
    have S2 : SR (mL (mL M' 12 0 (nI (hr % 24)).toInt64) 12 1 (nI tt).toInt64) i (σ2.2.2.1 54) np pt hr := S'.m (fun t _ => rfl) (fun j _ => by rw [T2.1]) b.2.2
    have S3 := S2.setT (w := w) (k := k) (n := r) hw (by omega) r1 b.2.2
    rw [← sA_f] at S3
    refine ⟨_, _, ⟨_, _, rfl, rfl, S3, ((G1.mo).mo).mI (by omega) (by omega), (G2.tr (TG.of T2)).sA (by omega) (by omega)⟩, ?_, ?_⟩
    · simp only [fX5_passes_139, s_g10 hi, x_rcv, X'.kinds e0, bsm, if_neg kk, x_g6, m_g11, s_g0 hi, a1', (mod24 (show hr < 2 ^ 31 by omega)).1, p_mom0, s_g3 hi, s_tasteO hi hw, c_taste hi hw (show k < 6 by omega), mL_1, e1, p_mom1, x_g0, mL_3, g0 M' e0, g10 (mL (mL M' 12 0 (nI (hr % 24)).toInt64) 12 1 (nI tt).toInt64) ⟨rfl, rfl⟩, z1, s_rcv hi, r2, p_taste hi hw (show k < 6 by omega), nI_1]
    · have z6 : fX6_codesTell (sI σ' 58 (nI tt)) 1 0 = some (σ2, x) := z2
      simp only [fX6_fade_23, X'.kindM, bsm, if_neg kk, fX6_tasteAt, ki2, ki14, nI_mul, nI_add, tg54 (i := 2 + 14 * w + k) (by omega), tt2, z6, r3, tp54 (i := 2 + 14 * w + k) (by omega), nI_1]
  · rintro n m x σ' ⟨M', _, rfl, rfl, S', G1, G2⟩
    have kk := nI_le (Nat.le_refl nk) (show nk < 2 ^ 31 by omega)
    refine ⟨M', σ', ?_, ?_, S', G1, G2⟩
    · simp only [fX5_passes_139, s_g10 hi, x_rcv, X.kinds G1.same, bsm, if_pos kk, nI_1]
    · simp only [fX6_fade_23, (X.to G1.same G2.up).kindM, bsm, if_pos kk, nI_1]
theorem fade_ok (X : HX a M σ nk nf np pt vl vf vm) (H : HTs K a M.2.2.2.1 σ vl vf vm) (hi : i < 22) (S : SR M i (σ.2.2.1 54) np pt hr) (v : Int32) :
    ∃ M' σ', fX5_passes_113 K (a + sbo i) FU (hp a M) v 0 = fX5_passes_235 K (a + sbo i) (hp a M') v ∧ fX6_fade σ = some σ' ∧ SR M' i (σ'.2.2.1 54) np pt hr ∧ MG i M M' ∧ TG σ σ' := by
  have b := X.bk
  obtain ⟨ha, g0, g2, g3, g4, g5, g9, g10, g11⟩ := X.set K
  by_cases hv : vf = none
  · have h48 : σ.2.2.1 48 4 = -1 := by
      rcases H.2.1 with ⟨z1, z2⟩ | ⟨r, cs, lo, hi', z1, -⟩
      · exact z2
      · rw [hv] at z1; cases z1
    refine ⟨M, σ, ?_, ?_, S, MG.refl i M, TG.refl σ⟩
    · have kk : ¬ nI np < 0 := nI_pos (by omega)
      obtain ⟨n, hn⟩ : ∃ n, FU = n + 1 := ⟨99999, rfl⟩
      rw [hn]
      simp only [fX5_passes_113, s_g10 hi, x_rcv, X.people (SameH.refl M), bsm, if_neg kk, x_g0, g0 M (SameH.refl M), g10 M (SameH.refl M), if_pos hv]
    · simp only [fX6_fade, ki4, tg48 (i := 4) (by omega), h48, bsm, if_true]
  · have h48 : ¬ σ.2.2.1 48 4 = -1 := by
      rcases H.2.1 with ⟨z1, z2⟩ | ⟨r, cs, lo, hi', z1, ⟨b0, b1, b2, -⟩, -⟩
      · exact absurd z1 hv
      · intro q
        have b2' : σ.2.2.1 48 4 = nI b0 := b2
        rw [b2', nI_eqm (by omega)] at q
        exact q
    have e4 : fX6_fade σ = fX6_fade_13 FU σ 0 := by
      simp only [fX6_fade, ki4, tg48 (i := 4) (by omega), bsm, if_neg h48]
    rw [e4]
    refine lp2z (F := fun n (x : HS) k => fX5_passes_113 K (a + sbo i) n x v k) (G := fun n (y : MS) k => fX6_fade_13 n y k) (N := np + 1)
      (I := fun _ x y => ∃ M' σ', x = hp a M' ∧ y = σ' ∧ SR M' i (σ'.2.2.1 54) np pt hr ∧ MG i M M' ∧ TG σ σ')
      (P := fun r r' => ∃ M' σ', r = fX5_passes_235 K (a + sbo i) (hp a M') v ∧ r' = some σ' ∧ SR M' i (σ'.2.2.1 54) np pt hr ∧ MG i M M' ∧ TG σ σ') (by omega) ⟨M, σ, rfl, rfl, S, MG.refl i M, TG.refl σ⟩ ?_ ?_
    · rintro n m x σ' k hk ⟨M', _, rfl, rfl, S', G1, G2⟩
      refine Or.inl ?_
      have X' := X.to G1.same G2.up
      have H' : HTs K a M'.2.2.2.1 σ' vl vf vm := by rw [G1.same.2]; exact H.up G2.up
      have kk : ¬ nI np < nI k := nI_nlt (by omega) (by omega)
      obtain ⟨M2, σ2, e1, e2, e3, e5, e6⟩ := fade_in (K := K) X' H' hi (show k < 6 by omega) hv S' v (fun h' b1 b2 => fX5_passes_113 K (a + sbo i) n h' b1 b2) (fun σ' b1 => fX6_fade_13 m σ' b1)
      refine ⟨_, _, ⟨M2, σ2, rfl, rfl, e3, G1.tr e5, G2.tr e6⟩, ?_, ?_⟩
      · rw [← e1]
        simp only [fX5_passes_113, s_g10 hi, x_rcv, X.people G1.same, bsm, if_neg kk, x_g0, g0 M' G1.same, g10 M' G1.same, if_neg hv]
      · rw [← e2]
        simp only [fX6_fade_13, X'.persM, bsm, if_neg kk]
    · rintro n m x σ' ⟨M', _, rfl, rfl, S', G1, G2⟩
      have kk : nI np < nI (np + 1) := nI_lt (by omega) (by omega)
      refine ⟨M', σ', ?_, ?_, S', G1, G2⟩
      · simp only [fX5_passes_113, s_g10 hi, x_rcv, X.people G1.same, bsm, if_pos kk]
      · simp only [fX6_fade_13, (X.to G1.same G2.up).persM, bsm, if_pos kk]
/-- films of the latest hour -/
def SN (M : CM) (i : Nat) (σ : MS) (nf q : Nat) : Prop := ∃ sn, sn < 256 ∧ M.1 (sbo i) 9 = nI sn ∧ ∀ f, f < nf → (sn / 2 ^ f % 2 = 1 ↔ ∃ p, p < q ∧ σ.2.2.1 61 p = nI f)
theorem or_nI : ∀ n, n < 256 → ∀ f, f < 8 → nI n ||| nI (2 ^ f) = nI (n ||| 2 ^ f) := by decide +kernel
theorem or_bit (n f j : Nat) : (n ||| 2 ^ f) / 2 ^ j % 2 = 1 ↔ n / 2 ^ j % 2 = 1 ∨ j = f := by
  have h1 : ∀ x : Nat, (x / 2 ^ j % 2 = 1) ↔ x.testBit j = true := fun x => by rw [Nat.testBit_eq_decide_div_mod_eq]; simp
  rw [h1, h1, Nat.testBit_or, Nat.testBit_two_pow, Bool.or_eq_true, decide_eq_true_eq]
  exact or_congr Iff.rfl eq_comm
def bq (B q p : Nat) : Nat := if p < q then B + 600 else B
theorem bq_mono (B q p : Nat) : bq B q p ≤ bq B (q + 1) p := by unfold bq; split <;> split <;> omega
theorem bq_le (B q p : Nat) : bq B q p ≤ B + 600 := by unfold bq; split <;> omega
theorem bq_0 (B p : Nat) : bq B 0 p = B := if_neg (by omega)
theorem bq_s (B q : Nat) : bq B q q = B := if_neg (by omega)
theorem bq_t (B q : Nat) : bq B (q + 1) q = B + 600 := if_pos (by omega)
/-- what a person's hour leaves: everything of an hour but its end -/
def HI (a : Nat) (M0 : CM) (σ0 : MS) (i nf np : Nat) (pt : Nat → Nat) (hr : Nat) (pl : Prop) (B q : Nat) (M : CM) (σ : MS) : Prop := SR M i (σ.2.2.1 54) np pt hr ∧ (∃ π kp, RS a M i π kp ∧ (σ0.1 60 = 0 → KR M i (σ.2.2.1 54) π kp)) ∧ (pl → PR (bq B q) M i σ) ∧ MF i M0 M ∧ TF σ0 σ ∧ (σ0.1 60 ≠ 0 → T96 σ0 σ) ∧ SN M i σ nf q
theorem SR.hour (h : SR M i g np pt hr) (hb : hr + 1 < 30000) {g' : Nat → Int32} (e0 : g' 0 = nI ((hr + 1) / 24)) (e1 : g' 1 = nI ((hr + 1) % 24)) (e2 : ∀ j, 2 ≤ j → j < 96 → g' j = g j) (hn : np ≤ 5) : SR (mI M (sbo i) 0 (nI (hr + 1))) i g' np pt (hr + 1) := by
  obtain ⟨⟨a1, a2, a3, a4⟩, ⟨m, m1, m2, m3⟩, b, c, d⟩ := h
  refine ⟨⟨mI_s, e0, e1, hb⟩, ⟨m, m1, by rw [mI_n (by omega)]; exact m2, fun p hp => by rw [e2 _ (by omega) (by omega)]; exact m3 p hp⟩, fun w k hw hk => ?_, fun w k hw hk => ?_, fun p hp => ?_⟩
  · rw [mI_n (by omega), e2 _ (by omega) (by omega)]; exact b w k hw hk
  · rw [mI_n (by omega), e2 _ (by omega) (by omega)]; exact c w k hw hk
  · rw [mI_n (by omega), e2 _ (by omega) (by omega)]; exact d p hp
theorem RS.to (R : RS a M i π kp) (e1 : M'.1 (sbo i) 2 = M.1 (sbo i) 2) (e2 : M'.2.2.1 (sbo i + 16) = M.2.2.1 (sbo i + 16)) : RS a M' i π kp := ⟨R.1, by rw [e1]; exact R.2.1, fun k hk => by rw [e2]; exact R.2.2.1 k hk, R.2.2.2⟩
theorem KR.to {g' : Nat → Int32} (R : KR M i g π kp) (hk : kp ≤ 40) (hp : ∀ k, k < 40 → π k < 40) (e1 : ∀ r, r < 40 → M'.1 (sbo i + (17 + r)) = M.1 (sbo i + (17 + r))) (e2 : ∀ j, 96 ≤ j → g' j = g j) : KR M' i g' π kp := ⟨by rw [e2 96 (by omega)]; exact R.1, fun k j h1 h2 => by rw [e1 _ (hp k (by omega)), e2 _ (by omega)]; exact R.2 k j h1 h2⟩
theorem hour_end (X : HX a M σ nk nf np pt vl vf vm) (H : HTs K a M.2.2.2.1 σ vl vf vm) (hi : i < 22) (hb : hr + 1 < 30000) (S : SR M i (σ.2.2.1 54) np pt hr) (v : Int32) : ∃ M' σ' σ1, fX5_passes_113 K (a + sbo i) FU (hp a M) v 0 = some (hp a M', v) ∧ fX6_fade σ = some σ1 ∧ ((aI σ1 54 (1 : Int32)).bind fun v4 => (tI σ1 54 (1 : Int32) (v4 + (1 : Int32))).bind fun σ5 => (aI σ5 54 (1 : Int32)).bind fun v6 => if v6 = (24 : Int32) then (tI σ5 54 (1 : Int32) (0 : Int32)).bind fun σ8 => (aI σ8 54 (0 : Int32)).bind fun v9 => (tI σ8 54 (0 : Int32) (v9 + (1 : Int32))).bind fun σ10 => some (σ10, v) else some (σ5, v)) = some (σ', v) ∧ SR M' i (σ'.2.2.1 54) np pt (hr + 1) ∧ (∀ o k, (o < sbo i + 2 ∨ sbo i + 15 ≤ o) → ¬ (o = sbo i ∧ k = 0) → M'.1 o k = M.1 o k) ∧ (∀ o, o ≠ 12 → M'.2.1 o = M.2.1 o) ∧ M'.2.2 = M.2.2 ∧ TS σ σ' ∧ (∀ j, 86 ≤ j → σ'.2.2.1 54 j = σ.2.2.1 54 j) := by
  have b := X.bk
  obtain ⟨M1, σ1, e1, e2, e3, e4, e5⟩ := fade_ok (K := K) X H hi S v
  obtain ⟨⟨a1, a2, a3, a4⟩, -, -⟩ := id e3
  have k1 : (1 : Int32) = nI 1 := rfl
  have k0 : (0 : Int32) = nI 0 := rfl
  have x1 : aI σ1 54 (1 : Int32) = some (nI (hr % 24)) := by rw [k1, tg54 (by omega), a3]
  have x2 : tI σ1 54 (1 : Int32) (nI (hr % 24) + 1) = some (sA σ1 54 1 (nI (hr % 24 + 1))) := by rw [nI_1]; exact tp54 (i := 1) (by omega)
  have x3 : aI (sA σ1 54 1 (nI (hr % 24 + 1))) 54 (1 : Int32) = some (nI (hr % 24 + 1)) := by rw [k1, tg54 (by omega), sA_s]
  have y1 : fX5_passes_235 K (a + sbo i) (hp a M1) v = some (hp a (mI M1 (sbo i) 0 (nI (hr + 1))), v) := by
    simp only [fX5_passes_235, s_g0 hi, a1, bsm, nI_1, s_p0 hi]
  have fr : ∀ o k, (o < sbo i + 2 ∨ sbo i + 15 ≤ o) → ¬ (o = sbo i ∧ k = 0) → (mI M1 (sbo i) 0 (nI (hr + 1))).1 o k = M.1 o k := fun o k h1 h2 => by
    rw [mI_n (by omega), e4.1 o h1]
  by_cases h24 : hr % 24 + 1 = 24
  · refine ⟨_, sA (sA (sA σ1 54 1 (nI (hr % 24 + 1))) 54 1 0) 54 0 (nI (hr / 24 + 1)), σ1, by rw [e1, y1], e2, ?_, ?_, fr, e4.2.1, e4.2.2, (((TS.og e5).sA).sA).sA, fun j hj => ?_⟩
    · have z1 : nI (hr % 24 + 1) = (24 : Int32) := by rw [h24]; rfl
      have z2 : tI (sA σ1 54 1 (nI (hr % 24 + 1))) 54 (1 : Int32) (0 : Int32) = some (sA (sA σ1 54 1 (nI (hr % 24 + 1))) 54 1 0) := tp54 (i := 1) (by omega)
      have z3 : aI (sA (sA σ1 54 1 (nI (hr % 24 + 1))) 54 1 0) 54 (0 : Int32) = some (nI (hr / 24)) := by
        rw [k0, tg54 (by omega), sA_m (by omega), sA_m (by omega), a2]
      have z4 : tI (sA (sA σ1 54 1 (nI (hr % 24 + 1))) 54 1 0) 54 (0 : Int32) (nI (hr / 24) + 1) = some (sA (sA (sA σ1 54 1 (nI (hr % 24 + 1))) 54 1 0) 54 0 (nI (hr / 24 + 1))) := by rw [nI_1]; exact tp54 (i := 0) (by omega)
      rw [x1, bsm, x2, bsm, x3, bsm, if_pos z1, z2, bsm, z3, bsm, z4, bsm]
    · refine e3.hour hb ?_ ?_ (fun j h1 h2 => by rw [sA_m (by omega), sA_m (by omega), sA_m (by omega)]) b.2.2
      · rw [sA_s]
        congr 1
        omega
      · rw [sA_m (by omega), sA_s]
        show nI 0 = _
        congr 1
        omega
    · rw [sA_m (by omega), sA_m (by omega), sA_m (by omega), e5.2.2.2.1 j (by omega)]
  · refine ⟨_, sA σ1 54 1 (nI (hr % 24 + 1)), σ1, by rw [e1, y1], e2, ?_, ?_, fr, e4.2.1, e4.2.2, (TS.og e5).sA, fun j hj => ?_⟩
    · have z1 : ¬ nI (hr % 24 + 1) = (24 : Int32) := by rw [ki24, nI_eqE (by omega) (by omega)]; exact h24
      rw [x1, bsm, x2, bsm, x3, bsm, if_neg z1]
    · refine e3.hour hb ?_ ?_ (fun j h1 h2 => by rw [sA_m (by omega)]) b.2.2
      · rw [sA_m (by omega), a2]
        congr 1
        omega
      · rw [sA_s]
        congr 1
        omega
    · rw [sA_m (by omega), e5.2.2.2.1 j (by omega)]
theorem TF.sA {v : Int32} (h : TF σ σ') (hk : k = 54 ∨ k = 61 ∨ k = 63) : TF σ (sA σ' k j v) := ⟨h.1, h.2.1, fun k' q1 q2 q3 => by rw [sA_n (by omega)]; exact h.2.2.1 k' q1 q2 q3, h.2.2.2⟩
theorem TF.sB {v : Int64} (h : TF σ σ') : TF σ (sB σ' 62 j v) := ⟨h.1, h.2.1, h.2.2.1, fun k' q1 q2 => by rw [sB_n q1]; exact h.2.2.2 k' q1 q2⟩
theorem HX.byC (K : KE) (X : HX a M σ nk nf np pt vl vf vm) (hi : i < 22) (S : SR M i (σ.2.2.1 54) np pt hr) (hp' : p < np) (hf : f < nf) (u : UpE σ σ') (e : σ'.2.2.1 54 = σ.2.2.1 54) : fX6_pleasedBy σ' (nI p) (nI f) = fX6_pleasedBy σ (nI p) (nI f) := by
  have b := X.bk
  obtain ⟨m, -, -, x3, -⟩ := S.prof (a := a) K hi b.2.2 hp'
  have x4 : fX6_doesPress σ' (nI p) = some (nI (m / 2 ^ p % 2)) := by
    rw [← x3]
    simp only [fX6_doesPress, ki86, ki2, nI_mul, nI_add, tg54 (i := 86 + 2 * p) (by omega), e]
  rw [X.byT hp' hf x3, (X.to (SameH.refl M) u.up).byT hp' hf x4]
  unfold byV
  rw [wv_c u, u.1 47 (by simp)]
set_option maxHeartbeats 8000000 in
theorem passes_ok (X : HX a M σ nk nf np pt vl vf vm) (H : HTs K a M.2.2.2.1 σ vl vf vm) (hi : i < 22) (hb : hr + 1 < 30000) (S : SR M i (σ.2.2.1 54) np pt hr) (R : RS a M i π kp) (hR : σ.1 60 = 0 → KR M i (σ.2.2.1 54) π kp) (pl : Prop) {B : Nat} (hB : B < 1000000000) (hpl : pl → PR (fun _ => B) M i σ) :
    ∃ M' σ' c, c ≤ np ∧ fX5_passes K (hp a M) (a + sbo i) = some (hp a M', nI c) ∧ fX6_hourGoes σ = some (σ', nI c) ∧ HI a M σ i nf np pt (hr + 1) pl B np M' σ' := by
  have b := X.bk
  have k0 : (0 : Int32) = nI 0 := rfl
  simp only [fX5_passes, s_p9 hi, bsm, fX6_hourGoes]
  refine lp2z (F := fun n (x : HS × Int32) k => fX5_passes_9 K (a + sbo i) n x.1 x.2 k) (G := fun n (y : MS × Int32) k => fX6_hourGoes_4 n y.1 y.2 k) (N := np) (x := (hp a (mI M (sbo i) 9 0), 0)) (y := (σ, 0))
    (I := fun q x y => ∃ M' σ' c, c ≤ q ∧ x = (hp a M', nI c) ∧ y = (σ', nI c) ∧ HI a M σ i nf np pt hr pl B q M' σ')
    (P := fun r r' => ∃ M' σ' c, c ≤ np ∧ r = some (hp a M', nI c) ∧ r' = some (σ', nI c) ∧ HI a M σ i nf np pt (hr + 1) pl B np M' σ') (by omega) ?_ ?_ ?_
  · refine ⟨_, σ, 0, by omega, rfl, rfl, ?_, ⟨π, kp, R.to (by rw [mI_n (by omega)]) rfl, fun h => (hR h).to R.1 (fun k hk => (R.2.2.1 k hk).1) (fun r hr => by rw [mI_o (by omega)]) (fun _ _ => rfl)⟩, fun h p hp => ?_, (MF.refl i M).mI (by omega) (by omega), TF.refl σ, fun _ _ _ => rfl, ⟨0, by omega, mI_s, fun f hf => ⟨fun h => by simp at h, fun ⟨p, h, _⟩ => absurd h (by omega)⟩⟩⟩
    · obtain ⟨⟨a1, a2, a3, a4⟩, ⟨m, m1, m2, m3⟩, c1, c2, c3⟩ := S
      refine ⟨⟨by rw [mI_n (by omega)]; exact a1, a2, a3, a4⟩, ⟨m, m1, by rw [mI_n (by omega)]; exact m2, m3⟩, fun w k hw hk => by rw [mI_n (by omega)]; exact c1 w k hw hk, fun w k hw hk => by rw [mI_n (by omega)]; exact c2 w k hw hk, fun p hp => by rw [mI_n (by omega)]; exact c3 p hp⟩
    · rw [mI_n (by omega), bq_0]
      exact hpl h p hp
  · rintro n m x y q hq ⟨M', σ', c, hc, rfl, rfl, S', ⟨π', kp', R', K'⟩, P', F', T', B', ⟨sn, n1, n2, n3⟩⟩
    refine Or.inl ?_
    have kk := nI_ge hq (show np < 2 ^ 31 by omega)
    -- the twin's first step
    have w61 : tI σ' 61 (nI q) (-1 : Int32) = some (sA σ' 61 q (-1)) := tp61 (by omega)
    have T1 : TF σ (sA σ' 61 q (-1)) := T'.sA (by omega)
    have X1 := X.to (F'.same hi) T1.up.up
    have H1 : HTs K a M'.2.2.2.1 (sA σ' 61 q (-1)) vl vf vm := by rw [(F'.same hi).2]; exact H.up T1.up.up
    have e54 : (sA σ' 61 q (-1)).2.2.1 54 = σ'.2.2.1 54 := sA_n (by omega)
    have S1 : SR M' i ((sA σ' 61 q (-1)).2.2.1 54) np pt hr := by rw [e54]; exact S'
    obtain ⟨⟨a1, a2, a3, a4⟩, -, -⟩ := id S1
    have q54 : aI (sA σ' 61 q (-1)) 54 (1 : Int32) = some (nI (hr % 24)) := by
      have z := tg54 (σ := sA σ' 61 q (-1)) (i := 1) (by omega)
      rw [a3] at z
      exact z
    obtain ⟨fv, f1, f2, f3⟩ := X1.free K hq (nI (hr % 24))
    have c9 : fX5_passes_9 K (a + sbo i) (n + 1) (hp a M') (nI c) (nI q) = (if fv = 0 then fX5_passes_47 K (a + sbo i) (fun h' b1 b2 => fX5_passes_9 K (a + sbo i) n h' b1 b2) (hp a M') (nI c) (nI q) (-1 : Int32) else (fX5_suggested K (hp a M') (a + sbo i) (nI q)).bind fun x11 => fX5_passes_47 K (a + sbo i) (fun h' b1 b2 => fX5_passes_9 K (a + sbo i) n h' b1 b2) x11.1 (nI c) (nI q) x11.2) := by
      simp only [fX5_passes_9, s_g10 hi, x_rcv, X.people (F'.same hi), bsm, if_neg kk, s_g0 hi, a1, (mod24 (show hr < 2 ^ 31 by omega)).1, f1 M' (SameH.refl M'), s_rcv hi]
    have t9 : fX6_hourGoes_4 (m + 1) σ' (nI c) (nI q) = (if fv = 0 then fX6_hourGoes_42 (fun σ' b1 b2 => fX6_hourGoes_4 m σ' b1 b2) (sA σ' 61 q (-1)) (nI c) (nI q) (-1 : Int32) else (fX6_suggestedTo (sA σ' 61 q (-1)) (nI q)).bind fun x15 => fX6_hourGoes_42 (fun σ' b1 b2 => fX6_hourGoes_4 m σ' b1 b2) x15.1 (nI c) (nI q) x15.2) := by
      simp only [fX6_hourGoes_4, (X.to (F'.same hi) T'.up.up).persM, bsm, if_neg kk, w61, q54, f2]
    -- nothing is seen: the state goes on
    have skip : ∀ (M2 : CM) (σ2 : MS), MV M' M2 → TV (sA σ' 61 q (-1)) σ2 → HI a M σ i nf np pt hr pl B (q + 1) M2 σ2 := fun M2 σ2 m2 t2 => by
      refine ⟨S1.mv m2 t2 b.2.2, ⟨π', kp', R'.to (by rw [m2.1]) (by rw [m2.2.1]), fun h => (K' h).to R'.1 (fun k hk => (R'.2.2.1 k hk).1) (fun r _ => by rw [m2.1]) (fun j _ => by rw [t2.1, e54])⟩, fun h p hp => ?_, F'.tr m2.mf, T1.tr t2.tf, fun h j hj => by rw [t2.1, e54]; exact B' h j hj, ⟨sn, n1, by rw [m2.1]; exact n2, fun f hf => ?_⟩⟩
      · rw [m2.2.2 _ (by have := sbo_lt hi; omega), m2.1, t2.2.2.2 62 (by omega), t2.1]
        show _ = σ'.2.2.2 62 p ∧ _ ∧ _ ≤ (σ'.2.2.2 62 p).toInt ∧ (σ'.2.2.2 62 p).toInt ≤ _
        rw [sA_n (by omega)]
        obtain ⟨w1, w2, w3, w4⟩ := P' h p hp
        have w5 := bq_mono B q p
        exact ⟨w1, w2, by omega, by omega⟩
      · rw [n3 f hf, t2.1]
        constructor
        · rintro ⟨p, h1, h2⟩
          exact ⟨p, by omega, by rw [sA_m (by omega)]; exact h2⟩
        · rintro ⟨p, h1, h2⟩
          by_cases hpq : p = q
          · subst hpq
            rw [sA_s] at h2
            have := nI_eqm (a := f) (by omega)
            rw [h2] at this
            simp at this
          · rw [sA_m hpq] at h2
            exact ⟨p, by omega, h2⟩
    rcases f3 with hf0 | hf1
    · rw [c9, t9, if_pos hf0, if_pos hf0]
      refine ⟨(hp a M', nI c), (sA σ' 61 q (-1), nI c), ⟨M', _, c, by omega, rfl, rfl, skip M' _ (MV.refl M') (TV.refl _)⟩, ?_, ?_⟩
      · simp only [fX5_passes_47, if_true, fX5_passes_105, nI_1]
      · simp only [fX6_hourGoes_42, if_true, fX6_hourGoes_121, nI_1]
    have hfn : ¬ fv = 0 := by rw [hf1]; decide
    rw [c9, t9, if_neg hfn, if_neg hfn]
    obtain ⟨M2, σ2, v, s1, s2, s3, s4, s5⟩ := suggested_ok (K := K) X1 H1 hi hq S1
    rw [s1, s2, bsm, bsm]
    dsimp only
    rcases s5 with hv | ⟨f, s, hf, rfl, hs, w, hw, hprof, hsn⟩
    · rw [hv]
      refine ⟨(hp a M2, nI c), (σ2, nI c), ⟨M2, σ2, c, by omega, rfl, rfl, skip M2 σ2 s3 s4⟩, ?_, ?_⟩
      · simp only [fX5_passes_47, if_true, fX5_passes_105, nI_1]
      · simp only [fX6_hourGoes_42, if_true, fX6_hourGoes_121, nI_1]
    -- a film is suggested
    have nov : ¬ nI f = (-1 : Int32) := by rw [nI_eqm (by omega)]; exact id
    obtain ⟨S2, ⟨π2, kp2, R2, K2⟩, P2, F2, T2, B2, N2⟩ := skip M2 σ2 s3 s4
    have X2 := X.to (F2.same hi) T2.up.up
    have H2 : HTs K a M2.2.2.2.1 σ2 vl vf vm := by rw [(F2.same hi).2]; exact H.up T2.up.up
    obtain ⟨ha, g0, g2, g3, g4, g5, g9, g10, g11⟩ := X2.set K
    have sc47 : aI σ2 47 (4 : Int32) = some (σ2.2.2.1 47 4) := by rw [ki4, tg47 (by omega)]
    have p47 : ∀ kc, fX5_passes_47 K (a + sbo i) kc (hp a M2) (nI c) (nI q) (nI f) = (if nI c = σ2.2.2.1 47 4 then fX5_passes_105 K (a + sbo i) kc (hp a (mI M2 (sbo i + 58) q (M2.1 (sbo i + 58) q + 1))) (nI c) (nI q) else (fX5_sees K (hp a M2) (a + sbo i) (nI q) (nI f)).bind fun x7 => (gI K x7.1 (some (a + sbo i)) 5 9).bind fun v8 => (pV x7.1 (some (a + sbo i)) 5 9 (.int (v8 ||| ((1 : Int32) <<< (nI f &&& 31))))).bind fun h9 => fX5_passes_105 K (a + sbo i) kc h9 (nI c + (1 : Int32)) (nI q)) := fun kc => by
      simp only [fX5_passes_47, if_neg nov, s_g10 hi, x_g0, bsm, g0 M2 (SameH.refl M2), g2 M2 (SameH.refl M2), s_g8 hi, c_refd hi (show q < 5 by omega), p_refd hi (show q < 5 by omega), s_rcv hi]
    rw [p47]
    have e61 : ∀ p, p < q → σ2.2.2.1 61 p = σ'.2.2.1 61 p := fun p hp => by rw [s4.1, sA_m (by omega)]
    by_cases hsc : nI c = σ2.2.2.1 47 4
    · refine ⟨(hp a (mI M2 (sbo i + 58) q (M2.1 (sbo i + 58) q + 1)), nI c), (sA σ2 63 q (σ2.2.2.1 63 q + 1), nI c), ⟨_, _, c, by omega, rfl, rfl, ?_⟩, ?_, ?_⟩
      · have e542 : (sA σ2 63 q (σ2.2.2.1 63 q + 1)).2.2.1 54 = σ2.2.2.1 54 := sA_n (by omega)
        refine ⟨?_, ⟨π2, kp2, R2.to (by rw [mI_n (by omega)]) rfl, fun h => (K2 h).to R2.1 (fun k hk => (R2.2.2.1 k hk).1) (fun r hr => by rw [mI_o (by omega)]) (fun j _ => by rw [e542])⟩, fun h p hp => ?_, F2.mI (by omega) (by omega), T2.sA (by omega), fun h j hj => by rw [e542]; exact B2 h j hj, ?_⟩
        · rw [e542]
          exact S2.m (fun t ht => by rw [mI_o (by omega)]) (fun _ _ => rfl) b.2.2
        · obtain ⟨z1, z2, z3, z4⟩ := P2 h p hp
          refine ⟨z1, ?_, z3, z4⟩
          by_cases hpq : p = q
          · subst hpq
            rw [mI_s, sA_s, z2]
          · rw [mI_n (Or.inr hpq), sA_m hpq]
            exact z2
        · obtain ⟨sn2, y1, y2, y3⟩ := N2
          refine ⟨sn2, y1, by rw [mI_n (by omega)]; exact y2, fun f hf => ?_⟩
          rw [y3 f hf, sA_n (show 61 ≠ 63 by omega)]
      · rw [if_pos hsc]
        simp only [fX5_passes_105, nI_1]
      · simp only [fX6_hourGoes_42, if_neg nov, sc47, bsm, if_pos hsc, tg63 (i := q) (by omega), tp63 (i := q) (by omega), fX6_hourGoes_121, nI_1]
    rw [if_neg hsc]
    -- it is seen
    have q2 : σ2.2.2.1 54 = (sA σ' 61 q (-1)).2.2.1 54 := by rw [s4.1]
    have prT : fX6_profileOf σ2 (nI q) = some (nI w) := by
      obtain ⟨m', -, -, -, w', -, x6, x4, x5⟩ := S1.prof (a := a) K hi b.2.2 hq
      rw [hprof] at x4
      rw [← Option.some.inj x4] at x5
      have : fX6_profileOf σ2 (nI q) = fX6_profileOf (sA σ' 61 q (-1)) (nI q) := by
        simp only [fX6_profileOf, fX6_doesPress, ki86, ki2, nI_mul, nI_add, tg54 (i := 86 + 2 * q) (by omega), q2]
      rw [this, x5]
    -- the twin's state when it is seen
    have hv4 : ∀ v : Int64, TF σ2 (sB (sA σ2 61 q (nI f)) 62 q v) := fun v => ((TF.refl σ2).sA (by omega)).sB
    obtain ⟨v, hv⟩ : ∃ v, fX6_pleasedBy σ2 (nI q) (nI f) = some v := by
      obtain ⟨m', -, -, x3, -⟩ := S2.prof (a := a) K hi b.2.2 hq
      exact ⟨_, X2.byT hq hf x3⟩
    have e7 : ∀ v : Int64, (sB (sA σ2 61 q (nI f)) 62 q v).2.2.1 54 = σ2.2.2.1 54 := fun v => sA_n (σ := σ2) (k := 61) (k' := 54) (i := q) (v := nI f) (by omega)
    have X7 := X2.to (SameH.refl M2) (hv4 (σ2.2.2.2 62 q + v.toInt64)).up.up
    have H7 := H2.up (hv4 (σ2.2.2.2 62 q + v.toInt64)).up.up
    have hsn7 : (sB (sA σ2 61 q (nI f)) 62 q (σ2.2.2.2 62 q + v.toInt64)).2.2.1 54 (2 + 14 * w + 6 + f) = nI s := by rw [e7, q2]; exact hsn
    have prT7 : fX6_profileOf (sB (sA σ2 61 q (nI f)) 62 q (σ2.2.2.2 62 q + v.toInt64)) (nI q) = some (nI w) := by
      have : fX6_profileOf (sB (sA σ2 61 q (nI f)) 62 q (σ2.2.2.2 62 q + v.toInt64)) (nI q) = fX6_profileOf σ2 (nI q) := by
        simp only [fX6_profileOf, fX6_doesPress, ki86, ki2, nI_mul, nI_add, tg54 (i := 86 + 2 * q) (by omega), e7]
      rw [this, prT]
    have h60 : (sB (sA σ2 61 q (nI f)) 62 q (σ2.2.2.2 62 q + v.toInt64)).1 60 = σ.1 60 := T2.1 60 (by omega) (by omega) (by omega) (by omega) (by omega)
    obtain ⟨M3, v3, σ4, σ5, σ6, π3, kp3, y1, y2, y3, y4, y5, y6, y7, y8, y9, y10, y11, y12, y13, y14, y15, y16, y17, -⟩ := sees_ok (K := K) X7 H7 hi hq hf (by rw [e7]; exact S2) R2 (fun h => by rw [e7]; exact K2 (by rw [← h60]; exact h)) (show w < 6 by omega) prT7 hsn7 hs
    have hv3 : v3 = v := by
      have := HX.byC K X2 hi S2 hq hf (hv4 (σ2.2.2.2 62 q + v.toInt64)).up (e7 _)
      rw [y8, hv] at this
      exact Option.some.inj this
    subst hv3
    obtain ⟨sn2, z1, z2, z3⟩ := N2
    have sn9 : M3.1 (sbo i) 9 = nI sn2 := by rw [y12]; exact z2
    have hf8 : f < 8 := by omega
    refine ⟨(hp a (mI M3 (sbo i) 9 (nI (sn2 ||| 2 ^ f))), nI (c + 1)), (σ6, nI (c + 1)), ⟨_, σ6, c + 1, by omega, rfl, rfl, ?_⟩, ?_, ?_⟩
    · have T6 : TF σ σ6 := (T2.tr (hv4 _)).tr y14.tf
      refine ⟨?_, ⟨π3, kp3, y6.to (by rw [mI_n (by omega)]) rfl, fun h => (y7 (by rw [h60]; exact h)).to y6.1 (fun k hk => (y6.2.2.1 k hk).1) (fun r hr => by rw [mI_o (by omega)]) (fun _ _ => rfl)⟩, fun h p hp => ?_, (F2.tr y10).mI (by omega) (by omega), T6, fun h j hj => ?_, ?_⟩
      · obtain ⟨⟨a1, a2, a3, a4⟩, ⟨m, m1, m2, m3⟩, c1, c2, c3⟩ := y5
        refine ⟨⟨by rw [mI_n (by omega)]; exact a1, a2, a3, a4⟩, ⟨m, m1, by rw [mI_n (by omega)]; exact m2, m3⟩, fun w k hw hk => by rw [mI_n (by omega)]; exact c1 w k hw hk, fun w k hw hk => by rw [mI_n (by omega)]; exact c2 w k hw hk, fun p hp => by rw [mI_n (by omega)]; exact c3 p hp⟩
      · obtain ⟨u1, u2, u3, u4⟩ := P2 h p hp
        rw [mI_2, y13 p, mI_n (by omega), y11, y14.2.2.2 62 (by omega), y14.2.2.1 63 (by omega)]
        have u0 := P' h p hp
        have e62 : σ2.2.2.2 62 p = σ'.2.2.2 62 p := by rw [s4.2.2.2 62 (by omega)]; rfl
        refine ⟨?_, ?_, ?_⟩
        · rw [sB_e]
          by_cases hpq : p = q
          · rw [if_pos hpq, if_pos hpq, ← (P2 h q (by omega)).1]
          · rw [if_neg hpq, if_neg hpq]
            exact u1
        · show _ = (sA σ2 61 q (nI f)).2.2.1 63 p
          rw [sA_n (show 63 ≠ 61 by omega)]
          exact u2
        · rw [sB_e]
          by_cases hpq : p = q
          · rw [if_pos hpq, hpq, bq_t]
            obtain ⟨-, -, u5, u6⟩ := u0
            rw [← e62, hpq, bq_s] at u5 u6
            have ad : (σ2.2.2.2 62 q + v3.toInt64).toInt = (σ2.2.2.2 62 q).toInt + v3.toInt := by
              rw [Int64.toInt_add, Int32.toInt_toInt64]
              exact Int.bmod_eq_of_le (by omega) (by omega)
            rw [ad]
            omega
          · rw [if_neg hpq]
            exact ⟨u3, u4⟩
      · rw [y15 (by rw [h60]; exact h) j hj, e7]
        exact B2 h j hj
      · refine ⟨sn2 ||| 2 ^ f, ?_, mI_s, fun f' hf' => ?_⟩
        · exact Nat.or_lt_two_pow (n := 8) z1 (Nat.lt_of_lt_of_le (Nat.pow_lt_pow_right (by omega) hf8) (Nat.le_refl _))
        · rw [or_bit, z3 f' hf', y14.2.2.1 61 (by omega)]
          show _ ↔ ∃ p, p < q + 1 ∧ (sA σ2 61 q (nI f)).2.2.1 61 p = nI f'
          constructor
          · rintro (⟨p, h1, h2⟩ | h)
            · by_cases hpq : p = q
              · subst hpq
                exfalso
                rw [s4.1, sA_s] at h2
                have := nI_eqm (a := f') (by omega)
                rw [h2] at this
                simp at this
              · exact ⟨p, h1, by rw [sA_m hpq]; exact h2⟩
            · exact ⟨q, by omega, by rw [sA_s, h]⟩
          · rintro ⟨p, h1, h2⟩
            by_cases hpq : p = q
            · subst hpq
              rw [sA_s, nI_eqE (by omega) (by omega)] at h2
              exact Or.inr h2.symm
            · rw [sA_m hpq] at h2
              exact Or.inl ⟨p, h1, h2⟩
    · rw [y1, bsm]
      dsimp only
      rw [s_g9 hi, bsm, sn9, shl1 f (by omega), or_nI sn2 z1 f hf8, s_p9 hi, bsm]
      simp only [fX5_passes_105, nI_1]
    · have hp61 : fX6_pleasedBy (sA σ2 61 q (nI f)) (nI q) (nI f) = some v3 := by
        rw [HX.byC K X2 hi S2 hq hf ((TF.refl σ2).sA (k := 61) (j := q) (v := nI f) (by omega)).up (sA_n (by omega)), hv]
      simp only [fX6_hourGoes_42, if_neg nov, sc47, bsm, if_neg hsc, tp61 (i := q) (show q < 5 by omega), aL_sA, tg62 (i := q) (show q < 5 by omega), hp61, tp62 (i := q) (show q < 5 by omega), sA_4, prT7, y2, y3, y4, fX6_hourGoes_121, nI_1]
  · rintro n m x y ⟨M', σ', c, hc, rfl, rfl, S', ⟨π', kp', R', K'⟩, P', F', T', B', N'⟩
    have kk := nI_le (Nat.le_refl np) (show np < 2 ^ 31 by omega)
    have X1 := X.to (F'.same hi) T'.up.up
    have H1 : HTs K a M'.2.2.2.1 σ' vl vf vm := by rw [(F'.same hi).2]; exact H.up T'.up.up
    obtain ⟨M2, σ2, σ1, e1, e2, e3, e4, e5, e6, e7, e8, e9⟩ := hour_end (K := K) X1 H1 hi hb S' (nI c)
    have hs := sbo_lt hi
    refine ⟨M2, σ2, c, hc, ?_, ?_, e4, ⟨π', kp', R'.to (e5 _ _ (by omega) (by omega)) (by rw [e7]), fun h => (K' h).to R'.1 (fun k hk => (R'.2.2.1 k hk).1) (fun r hr => funext fun k => e5 _ _ (by omega) (by omega)) (fun j hj => e9 j (by omega))⟩, fun h p hp => ?_, F'.tr ⟨fun o h => funext fun k => e5 o k (by omega) (by omega), fun o h1 h2 => e6 o h2, fun o _ => by rw [e7], by rw [e7]⟩, T'.tr e8.tf, fun h j hj => by rw [e9 j (by omega)]; exact B' h j hj, ?_⟩
    · rw [← e1]
      simp only [fX5_passes_9, s_g10 hi, x_rcv, X.people (F'.same hi), bsm, if_pos kk]
    · rw [← e3]
      simp only [fX6_hourGoes_4, X1.persM, bsm, if_pos kk, e2]
    · rw [e6 _ (by omega), e5 _ _ (by omega) (by omega), e8.2.2.2 62 (by omega), e8.2.2.1 63 (by omega)]
      exact P' h p hp
    · obtain ⟨sn, n1, n2, n3⟩ := N'
      exact ⟨sn, n1, by rw [e5 _ _ (by omega) (by omega)]; exact n2, fun f hf => by rw [n3 f hf, e8.2.2.1 61 (by omega)]⟩
end PPS

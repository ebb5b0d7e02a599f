/-! PLAIN LAW, what is tried: sow, rest -/
set_option maxRecDepth 100000
section PSW
variable {K : KE} {a i j n k f p w m nk nf np hr kp B : Nat} {M M0 M' M1 M2 : CM} {σ σ0 σ' σ1 σ2 : MS} {pt pt' : Nat → Nat} {π : Nat → Nat} {vl vf vm : Option Nat}
theorem HX.ptw (X : HX a M σ nk nf np pt vl vf vm) (h : ∀ f, f < 8 → pt' f = pt f) (h9 : ∀ f, pt' f ≤ 9) : HX a M σ nk nf np pt' vl vf vm := by
  obtain ⟨ha, h1, h2, v1, v2, v3, v4, v5⟩ := X
  exact ⟨ha, h1, h2, v1, v2, h9, fun f hf => by rw [h f (by omega)]; exact v4 f hf, v5⟩
theorem kMin : (-9223372036854775808 : Int64).toInt = -9223372036854775808 := by decide
theorem ps18 : PS18 K a (IV K a) := by
  intro h σ n x y hn I
  have I' := I.next
  obtain ⟨M, nk, nf, np, pt, vl, vf, vm, rfl, X, H, N, E⟩ := I
  have hN := N
  obtain ⟨hr, π, kp, N1, N2, N3, N4⟩ := N
  have b := X.bk
  have e0 := SameH.refl M
  have i1 : 1 < 22 := by omega
  rcases X.isPers K x with ⟨p, hp', rfl, c1, t1⟩ | ⟨c1, t1⟩
  rotate_left
  · exact ⟨_, _, -1, by simp only [fX0_sow, x_rcv, bsm, c1 M e0, if_true], by simp only [fX6_sow, t1, bsm, if_true], I'⟩
  rcases ahead_ok (K := K) X N2 (lo := 0) (hi := 72) (by omega) (by omega) y with ⟨q, q1, q2, q3, rfl, c2, t2⟩ | ⟨-, c2, t2⟩
  rotate_left
  · have c2' : fX0_isAhead K (hp a M) a y 0 72 = some 0 := c2 M (MU.refl M)
    have t2' : fX6_isAhead σ y 0 72 = some 0 := t2
    exact ⟨_, _, -1, by simp only [fX0_sow, x_rcv, bsm, c1 M e0, if_neg n01, c2', if_true], by simp only [fX6_sow, t1, bsm, if_neg n01, t2', if_true], I'⟩
  have c2' : fX0_isAhead K (hp a M) a (nI q) 0 72 = some 1 := c2 M (MU.refl M)
  have t2' : fX6_isAhead σ (nI q) 0 72 = some 1 := t2
  obtain ⟨σ1, s1, s2, s3⟩ := th_aside σ
  obtain ⟨m, -, -, -, w, -, w2, -, w4⟩ := N2.prof (a := a) K (show 0 < 22 by omega) b.2.2 hp'
  obtain ⟨pt', hpt⟩ : ∃ pt' : Nat → Nat, pt' = fun f => if f = 9 then 1 else pt f := ⟨_, rfl⟩
  have hp9 : pt' 9 ≠ 0 := by rw [hpt]; simp
  have hp8 : ∀ f, f < 8 → pt' f = pt f := fun f hf => by rw [hpt]; exact if_neg (by omega)
  have hpl : ∀ f, pt' f ≤ 9 := fun f => by
    rw [hpt]
    dsimp only
    split
    · omega
    · exact X.v.2.2.1 f
  have Xp := X.ptw hp8 hpl
  have key : ∃ M3 σ4 v, fX0_sow_31 K a FU (hp a M) (nI p) (nI q) (-1) (-9223372036854775808) 0 = some (hp a M3, v) ∧ fX6_sow_40 FU σ1 (nI p) (nI q) (nI w) (-1) 0 0 = some (σ4, v) ∧ IV K a (hp a M3) σ4 (n + 1) := by
    refine lp2z (F := fun n (x : HS × Int32 × Int64) k => fX0_sow_31 K a n x.1 (nI p) (nI q) x.2.1 x.2.2 k) (G := fun n (y : MS × Int32 × Int64) k => fX6_sow_40 n y.1 (nI p) (nI q) (nI w) y.2.1 y.2.2 k) (N := nf) (x := (hp a M, -1, -9223372036854775808)) (y := (σ1, -1, 0))
      (I := fun _ x y => ∃ M1 σ2 v z z', x = (hp a M1, v, z) ∧ y = (σ2, v, z') ∧ MU M M1 ∧ (∃ π kp, RS a M1 1 π kp) ∧ TH σ σ2 ∧ σ2.2.2.1 54 = σ.2.2.1 54 ∧ (v = -1 → z = -9223372036854775808) ∧ (¬ v = -1 → z = z'))
      (P := fun r r' => ∃ M3 σ4 v, r = some (hp a M3, v) ∧ r' = some (σ4, v) ∧ IV K a (hp a M3) σ4 (n + 1)) (by omega) ⟨M, σ1, -1, _, _, rfl, rfl, MU.refl M, E.1 1 i1, s2, s3, fun _ => rfl, fun h => absurd rfl h⟩ ?_ ?_
    · rintro g1 g2 x y f hf ⟨M1, σ2, v, z, z', rfl, rfl, hM, hR, T, e54, hz1, hz2⟩
      refine Or.inl ?_
      have kk := nI_ge hf (show nf < 2 ^ 31 by omega)
      obtain ⟨M2, d1, d2, d3, ⟨π2, kp2, d4⟩, d5, d6⟩ := cpy_ok (K := K) N2 b.2.2 N3 hM hR
      have X2 := X.to d2.same T.up.up
      have H2 : HTs K a M2.2.2.2.1 σ2 vl vf vm := by rw [d2.same.2]; exact H.up T.up.up
      have d3' : SR M2 1 (σ2.2.2.1 54) np pt hr := by rw [e54]; exact d3
      have wT : fX6_profileOf σ2 (nI p) = some (nI w) := by
        rw [← w4]
        simp only [fX6_profileOf, fX6_doesPress, ki86, ki2, nI_mul, nI_add, tg54 (i := 86 + 2 * p) (by omega), e54]
      have wC : fX5_profile K (hp a M2) (a + sbo 1) (nI p) = some (nI w) := by
        obtain ⟨m', -, -, -, w', -, x6, x4, x5⟩ := d3'.prof (a := a) K i1 b.2.2 hp'
        rw [wT] at x5
        rw [x4, Option.some.inj x5]
      obtain ⟨s, o1, o2, o3, o4, o5⟩ := X2.over K i1 (show w < 6 by omega) hf d3'
      have ft : fX6_filmMany σ2 = some (nI nf) := X2.filmM
      have cfm : fX0_films K (hp a M1) a = some (nI nf) := X.films hM.same
      have vb := X.v.2.2.1 f
      by_cases hs : s = pt f
      · refine ⟨(hp a M2, v, z), (σ2, v, z'), ⟨M2, σ2, v, z, z', rfl, rfl, d2, ⟨π2, kp2, d4⟩, T, e54, hz1, hz2⟩, ?_, ?_⟩
        · rw [if_pos hs] at o3
          simp only [fX0_sow_31, x_rcv, bsm, cfm, if_neg kk, x_g10, x_g9, s_rcv i1, d1, wC, o3, if_neg n01, fX0_sow_137, nI_1]
        · simp only [fX6_sow_40, ft, bsm, if_neg kk, o4, o5, if_pos (congrArg nI hs), fX6_sow_118, nI_1]
      · have o6 : ¬ nI s = nI (pt f) := by rw [nI_eqE (by omega) (by omega)]; exact hs
        rw [if_neg hs] at o3
        have h60 : ¬ σ2.1 60 = 0 := by rw [T.1]; decide
        obtain ⟨M3, v3, σa, σb, σc, π3, kp3, y1, y2, y3, y4, y5, y6, y7, y8, y9, y10, y11, y12, y13, y14, y15, y16, y17, y18, y19, c, y20, y21⟩ := sees_ok (K := K) X2 H2 i1 hp' hf d3' d4 (fun h => absurd h h60) (show w < 6 by omega) wT o2 (show s < pt f by omega)
        have Ta : TH σ σa := T.tf y18.tf (fun j hj => y18.2.2.2.1 j (by omega))
        have M4 : MU M (mL M3 (sbo 1 + 57) p 0) := (d2.tr (MU.of y10)).tr (MU.of ((MF.refl 1 M3).mL (by omega) (by omega)))
        have S4 : SR (mL M3 (sbo 1 + 57) p 0) 1 (σa.2.2.1 54) np pt' hr := (y5.loose hp9 hp8 y20 (show p < 5 by omega) y21 y19 b.2.2).m (fun _ _ => rfl) (fun _ _ => rfl) b.2.2
        obtain ⟨M5, σ5, v5, f1, f2, f3, f4, f5, f6, f7, f8⟩ := try_ok (K := K) (hr := hr) (n := q) Xp H (by omega) (by omega) M4 Ta S4 ⟨π3, kp3, y6⟩ (fun k hk => ⟨by
          rw [mL_2, y13 k]
          by_cases e : k = p
          · rw [if_pos ⟨rfl, e⟩]
          · rw [if_neg (by simp [e]), if_neg e]
            exact (d5 k hk).1, by
          show M3.1 (sbo 1 + 58) k = 0
          rw [y11]
          exact (d5 k hk).2⟩)
        obtain ⟨σ6, g3, g4, g5, g6, g7⟩ := f5.anew
        obtain ⟨p1, p2, p3, p4⟩ := f6 p (by omega)
        have tg : aL σ6 62 (nI p) = some (M5.2.1 (sbo 1 + 57) p) := by rw [tg62 (by omega), g6, p1]
        have cst : fX0_sow_31 K a (g1 + 1) (hp a M1) (nI p) (nI q) v z (nI f) = (if z < M5.2.1 (sbo 1 + 57) p then fX0_sow_31 K a g1 (hp a M5) (nI p) (nI q) (nI f) (M5.2.1 (sbo 1 + 57) p) (nI (f + 1)) else fX0_sow_31 K a g1 (hp a M5) (nI p) (nI q) v z (nI (f + 1))) := by
          simp only [fX0_sow_31, x_rcv, bsm, cfm, if_neg kk, x_g10, x_g9, s_rcv i1, d1, wC, o3, if_true, y1, s_g7 i1, p_pls i1 (show p < 5 by omega), f1, c_pls i1 (show p < 5 by omega), fX0_sow_137, nI_1]
        have tst : fX6_sow_40 (g2 + 1) σ2 (nI p) (nI q) (nI w) v z' (nI f) = (if v = -1 then fX6_sow_40 g2 σ6 (nI p) (nI q) (nI w) (nI f) (M5.2.1 (sbo 1 + 57) p) (nI (f + 1)) else if z' < M5.2.1 (sbo 1 + 57) p then fX6_sow_40 g2 σ6 (nI p) (nI q) (nI w) (nI f) (M5.2.1 (sbo 1 + 57) p) (nI (f + 1)) else fX6_sow_40 g2 σ6 (nI p) (nI q) (nI w) v z' (nI (f + 1))) := by
          simp only [fX6_sow_40, ft, bsm, if_neg kk, o4, o5, if_neg o6, y2, f2, g3, tg, fX6_sow_106, fX6_sow_118, nI_1]
        have nf1 : ¬ nI f = -1 := by rw [nI_eqm (by omega)]; exact id
        by_cases hv : v = -1
        · have hlt : z < M5.2.1 (sbo 1 + 57) p := by
            rw [hz1 hv, l_lt, kMin, p1]
            have : -((600 * q : Nat) : Int) ≤ (σ5.2.2.2 62 p).toInt := p3
            omega
          rw [if_pos hlt] at cst
          rw [if_pos hv] at tst
          exact ⟨(hp a M5, nI f, _), (σ6, nI f, _), ⟨M5, σ6, nI f, _, _, rfl, rfl, f3, f4, g4, g5, fun h => absurd h nf1, fun _ => rfl⟩, cst, tst⟩
        · have hzz := hz2 hv
          subst hzz
          rw [if_neg hv] at tst
          by_cases hlt : z < M5.2.1 (sbo 1 + 57) p
          · rw [if_pos hlt] at cst tst
            exact ⟨(hp a M5, nI f, _), (σ6, nI f, _), ⟨M5, σ6, nI f, _, _, rfl, rfl, f3, f4, g4, g5, fun h => absurd h nf1, fun _ => rfl⟩, cst, tst⟩
          · rw [if_neg hlt] at cst tst
            exact ⟨(hp a M5, v, z), (σ6, v, z), ⟨M5, σ6, v, z, z, rfl, rfl, f3, f4, g4, g5, fun h => absurd h hv, fun _ => rfl⟩, cst, tst⟩
    · rintro g1 g2 x y ⟨M1, σ2, v, z, z', rfl, rfl, hM, hR, T, e54, hz1, hz2⟩
      have kk := nI_le (Nat.le_refl nf) (show nf < 2 ^ 31 by omega)
      obtain ⟨σ5, k1, k2, k3, k4, k5, k6⟩ := T.back E.2.2.2.2.2.2.2.2.2.1
      have ft : fX6_filmMany σ2 = some (nI nf) := (X.to hM.same T.up.up).filmM
      refine ⟨M1, σ5, v, by simp only [fX0_sow_31, x_rcv, bsm, X.films hM.same, if_pos kk], by simp only [fX6_sow_40, ft, bsm, if_pos kk, k1], IV.think X H hN E.next hM hR k2 k3 k4⟩
  obtain ⟨M3, σ4, v, k1, k2, k3⟩ := key
  exact ⟨hp a M3, σ4, v, by simp only [fX0_sow, x_rcv, bsm, c1 M e0, if_neg n01, c2', k1], by simp only [fX6_sow, t1, bsm, if_neg n01, t2', w4, s1, k2], k3⟩
-- rest
/-- the pleasures of the first s sets -/
def BS (M : CM) (σ : MS) (np s : Nat) : Prop := ∀ q p, q < s → p < np → M.2.1 (135 + q) p = σ.2.2.2 64 (5 * q + p)
theorem MU.by {v : Int64} (h : MU M M') (hw : w < 32) : MU M (mL M' (135 + w) k v) := ⟨h.1, fun o h1 h2 => by rw [mL_o (by omega)]; exact h.2.1 o h1 h2, h.2.2.1, h.2.2.2⟩
theorem TH.by {v : Int64} (h : TH σ σ1) : TH σ (sB σ1 64 j v) := ⟨h.1, h.2.1, h.2.2.1, h.2.2.2.1, fun k h1 h2 h3 => by rw [sB_n h2]; exact h.2.2.2.2.1 k h1 h2 h3, h.2.2.2.2.2.1, h.2.2.2.2.2.2⟩
theorem rest_in (X : HX a M σ nk nf np pt vl vf vm) (hs : m < 32) (hM : MU M M1) (hR : ∃ π kp, RS a M1 1 π kp) (T : TH σ σ1) (e54 : σ1.2.2.1 54 = σ.2.2.1 54) (hB : BS M1 σ1 np m) (hP : ∀ p, p < np → M1.2.1 (sbo 1 + 57) p = σ1.2.2.2 62 p) (x y : Int32) (kc : HS → Int32 → Int32 → Int32 → Option (HS × Int32)) (kt : MS → Int32 → Int32 → Int32 → Option (MS × Int32)) (y' : Int32) : ∃ M2 σ2, fX0_rest_54 K a kc FU (hp a M1) x y (nI m) 0 = kc (hp a M2) x y (nI (m + 1)) ∧ fX6_rest_49 kt FU σ1 x y' (nI m) 0 = kt σ2 x y' (nI (m + 1)) ∧ MU M M2 ∧ (∃ π kp, RS a M2 1 π kp) ∧ TH σ σ2 ∧ σ2.2.2.1 54 = σ.2.2.1 54 ∧ BS M2 σ2 np (m + 1) := by
  have b := X.bk
  have i1 : 1 < 22 := by omega
  refine lp2z (F := fun n (s : HS) k => fX0_rest_54 K a kc n s x y (nI m) k) (G := fun n (s : MS) k => fX6_rest_49 kt n s x y' (nI m) k) (N := np)
    (I := fun q s s' => ∃ M2, s = hp a M2 ∧ MU M M2 ∧ M2.1 = M1.1 ∧ M2.2.2 = M1.2.2 ∧ M2.2.1 (sbo 1 + 57) = M1.2.1 (sbo 1 + 57) ∧ TH σ s' ∧ s'.2.2.1 = σ1.2.2.1 ∧ s'.2.2.2 62 = σ1.2.2.2 62 ∧ BS M2 s' np m ∧ ∀ p, p < q → M2.2.1 (135 + m) p = s'.2.2.2 64 (5 * m + p))
    (P := fun r r' => ∃ M2 σ2, r = kc (hp a M2) x y (nI (m + 1)) ∧ r' = kt σ2 x y' (nI (m + 1)) ∧ MU M M2 ∧ (∃ π kp, RS a M2 1 π kp) ∧ TH σ σ2 ∧ σ2.2.2.1 54 = σ.2.2.1 54 ∧ BS M2 σ2 np (m + 1)) (by omega) ⟨M1, rfl, hM, rfl, rfl, rfl, T, rfl, rfl, hB, fun p hp => absurd hp (by omega)⟩ ?_ ?_
  · rintro f1 f2 s s' q hq ⟨M2, rfl, h1, h2, h3, h4, h5, h6, h7, h8, h9⟩
    refine Or.inl ?_
    have kk := nI_ge hq (show np < 2 ^ 31 by omega)
    have es : sbo 1 = 75 := rfl
    refine ⟨hp a (mL M2 (135 + m) q (M1.2.1 (sbo 1 + 57) q)), sB s' 64 (5 * m + q) (σ1.2.2.2 62 q), ⟨_, rfl, h1.by hs, h2, h3, by rw [mL_o (by omega)]; exact h4, h5.by, h6, by rw [sB_n (by omega)]; exact h7, fun z p hz hp => ?_, fun p hp => ?_⟩, ?_, ?_⟩
    · rw [mL_n (by omega), sB_e, if_neg (by omega)]
      exact h8 z p hz hp
    · rw [mL_2, sB_e]
      by_cases e : p = q
      · rw [if_pos ⟨rfl, e⟩, if_pos (by omega), hP q hq]
      · rw [if_neg (by omega), if_neg (by omega)]
        exact h9 p (by omega)
    · simp only [fX0_rest_54, x_rcv, bsm, X.people h1.same, if_neg kk, x_g11, s_byO hs, x_g10, s_g7 i1, c_pls i1 (show q < 5 by omega), h4, p_by hs (show q < 5 by omega), nI_1]
    · have pm : fX6_personMany s' = some (nI np) := (X.to h1.same h5.up.up).persM
      simp only [fX6_rest_49, pm, bsm, if_neg kk, tg62 (i := q) (show q < 5 by omega), h7, ki5, nI_mul, nI_add, tp64 (i := 5 * m + q) (by omega), nI_1]
  · rintro f1 f2 s s' ⟨M2, rfl, h1, h2, h3, h4, h5, h6, h7, h8, h9⟩
    have kk := nI_le (Nat.le_refl np) (show np < 2 ^ 31 by omega)
    have pm : fX6_personMany s' = some (nI np) := (X.to h1.same h5.up.up).persM
    refine ⟨M2, s', by simp only [fX0_rest_54, x_rcv, bsm, X.people h1.same, if_pos kk, nI_1], by simp only [fX6_rest_49, pm, bsm, if_pos kk, nI_1], h1, ?_, h5, by rw [h6]; exact e54, fun z p hz hp => ?_⟩
    · obtain ⟨π, kp, R⟩ := hR
      exact ⟨π, kp, R.to (by rw [h2]) (by rw [h3])⟩
    · by_cases e : z = m
      · rw [e]; exact h9 p hp
      · exact h8 z p (by omega) hp
theorem xr_nI : ∀ m, m < 32 → ∀ p, p < 5 → nI m ^^^ nI (2 ^ p) = nI (m ^^^ 2 ^ p) := by decide +kernel
theorem isRest_ok (X : HX a M σ nk nf np pt vl vf vm) (hm : m < 2 ^ np) (hM : MU M M1) (hu : UpE σ σ1) (hB : BS M1 σ1 np (2 ^ np)) : ∃ v, fX0_isRest K (hp a M1) a (nI m) = some v ∧ fX6_isRest σ1 (nI m) = some v := by
  have b := X.bk
  obtain ⟨w1, w2⟩ := pw5 np (by omega)
  have pm : fX6_personMany σ1 = some (nI np) := (X.to hM.same hu.up).persM
  refine lp2z (F := fun n (s : Unit) k => fX0_isRest_2 K (hp a M1) a n (nI m) k) (G := fun n (s : Unit) k => fX6_isRest_2 σ1 n (nI m) k) (N := np) (x := ()) (y := ()) (I := fun _ _ _ => True) (P := fun r r' => ∃ v, r = some v ∧ r' = some v) (by omega) trivial ?_ ?_
  · rintro f1 f2 s s' q hq -
    have kk := nI_ge hq (show np < 2 ^ 31 by omega)
    have xl : m ^^^ 2 ^ q < 2 ^ np := Nat.xor_lt_two_pow hm (Nat.pow_lt_pow_right (by omega) hq)
    have z1 := hB (m ^^^ 2 ^ q) q xl hq
    have z2 := hB m q hm hq
    have e1 : aL σ1 64 ((5 : Int32) * nI (m ^^^ 2 ^ q) + nI q) = some (M1.2.1 (135 + (m ^^^ 2 ^ q)) q) := by
      rw [ki5, nI_mul, nI_add, tg64 (by omega), z1]
    have e2 : aL σ1 64 ((5 : Int32) * nI m + nI q) = some (M1.2.1 (135 + m) q) := by
      rw [ki5, nI_mul, nI_add, tg64 (by omega), z2]
    by_cases hl : M1.2.1 (135 + (m ^^^ 2 ^ q)) q ≤ M1.2.1 (135 + m) q
    · refine Or.inl ⟨(), (), trivial, ?_, ?_⟩
      · simp only [fX0_isRest_2, x_rcv, bsm, X.people hM.same, if_neg kk, x_g11, shl1 q (by omega), xr_nI m (by omega) q (by omega), s_byO (show m ^^^ 2 ^ q < 32 by omega), s_byO (show m < 32 by omega), c_by (show m ^^^ 2 ^ q < 32 by omega) (show q < 5 by omega), c_by (show m < 32 by omega) (show q < 5 by omega), if_pos hl, nI_1]
      · simp only [fX6_isRest_2, pm, bsm, if_neg kk, shl1 q (by omega), xr_nI m (by omega) q (by omega), e1, e2, if_pos hl, nI_1]
    · refine Or.inr ⟨0, ?_, ?_⟩
      · simp only [fX0_isRest_2, x_rcv, bsm, X.people hM.same, if_neg kk, x_g11, shl1 q (by omega), xr_nI m (by omega) q (by omega), s_byO (show m ^^^ 2 ^ q < 32 by omega), s_byO (show m < 32 by omega), c_by (show m ^^^ 2 ^ q < 32 by omega) (show q < 5 by omega), c_by (show m < 32 by omega) (show q < 5 by omega), if_neg hl]
      · simp only [fX6_isRest_2, pm, bsm, if_neg kk, shl1 q (by omega), xr_nI m (by omega) q (by omega), e1, e2, if_neg hl]
  · rintro f1 f2 s s' -
    have kk := nI_le (Nat.le_refl np) (show np < 2 ^ 31 by omega)
    exact ⟨1, by simp only [fX0_isRest_2, x_rcv, bsm, X.people hM.same, if_pos kk], by simp only [fX6_isRest_2, pm, bsm, if_pos kk]⟩
theorem ps16 : PS16 K a (IV K a) := by
  intro h σ n x hn I
  have I' := I.next
  obtain ⟨M, nk, nf, np, pt, vl, vf, vm, rfl, X, H, N, E⟩ := I
  have hN := N
  obtain ⟨hr, π, kp, N1, N2, N3, N4⟩ := N
  have b := X.bk
  have e0 := SameH.refl M
  have i1 : 1 < 22 := by omega
  obtain ⟨w1, w2⟩ := pw5 np (by omega)
  have hs := shl1 np (by omega)
  rcases ahead_ok (K := K) X N2 (lo := 0) (hi := 48) (by omega) (by omega) x with ⟨q, q1, q2, q3, rfl, c2, t2⟩ | ⟨-, c2, t2⟩
  rotate_left
  · have c2' : fX0_isAhead K (hp a M) a x 0 48 = some 0 := c2 M (MU.refl M)
    have t2' : fX6_isAhead σ x 0 48 = some 0 := t2
    exact ⟨_, _, -1, by simp only [fX0_rest, x_rcv, bsm, c2', if_true], by simp only [fX6_rest, t2', bsm, if_true], I'⟩
  have c2' : fX0_isAhead K (hp a M) a (nI q) 0 48 = some 1 := c2 M (MU.refl M)
  have t2' : fX6_isAhead σ (nI q) 0 48 = some 1 := t2
  obtain ⟨σ1, s1, s2, s3⟩ := th_aside σ
  -- what is best
  have second : ∀ M1 σ2, MU M M1 → (∃ π kp, RS a M1 1 π kp) → TH σ σ2 → BS M1 σ2 np (2 ^ np) → ∃ σ3 v, fX6_takesBack σ2 = some σ3 ∧ fX0_rest_96 K a FU (hp a M1) (-1) 0 = some (hp a M1, v) ∧ fX6_rest_97 FU σ3 (nI (2 ^ np)) (-1) 0 = some (σ3, v) ∧ IV K a (hp a M1) σ3 (n + 1) := by
    intro M1 σ2 hM hR T hB
    obtain ⟨σ3, k1, k2, k3, k4, k5, k6⟩ := T.back E.2.2.2.2.2.2.2.2.2.1
    have hB3 : BS M1 σ3 np (2 ^ np) := fun z p hz hp => by rw [k5]; exact hB z p hz hp
    have key : ∃ v, fX0_rest_96 K a FU (hp a M1) (-1) 0 = some (hp a M1, v) ∧ fX6_rest_97 FU σ3 (nI (2 ^ np)) (-1) 0 = some (σ3, v) := by
      refine lp2z (F := fun n (s : Int32) k => fX0_rest_96 K a n (hp a M1) s k) (G := fun n (s : Int32) k => fX6_rest_97 n σ3 (nI (2 ^ np)) s k) (N := 2 ^ np) (I := fun _ s s' => s = s' ∧ (s = -1 ∨ ∃ m, m < 2 ^ np ∧ s = nI m)) (P := fun r r' => ∃ v, r = some (hp a M1, v) ∧ r' = some (σ3, v)) (by omega) ⟨rfl, Or.inl rfl⟩ ?_ ?_
      · rintro f1 f2 s s' k hk ⟨rfl, hv⟩
        refine Or.inl ?_
        have kk := nI_ge hk (show 2 ^ np < 2 ^ 31 by omega)
        obtain ⟨v, v1, v2⟩ := isRest_ok (K := K) X hk hM k2 hB3
        have in1 : ∀ s : Int32, fX0_rest_122 K a (fun h' b2 b3 => fX0_rest_96 K a f1 h' b2 b3) (hp a M1) s (nI k) = (if v = 0 then fX0_rest_96 K a f1 (hp a M1) s (nI (k + 1)) else fX0_rest_96 K a f1 (hp a M1) (nI k) (nI (k + 1))) := fun s => by
          simp only [fX0_rest_122, x_rcv, bsm, v1, fX0_rest_132, nI_1]
        have in2 : ∀ s : Int32, fX6_rest_120 (fun σ' b2 b3 b4 => fX6_rest_97 f2 σ' b2 b3 b4) σ3 (nI (2 ^ np)) s (nI k) = (if v = 0 then fX6_rest_97 f2 σ3 (nI (2 ^ np)) s (nI (k + 1)) else fX6_rest_97 f2 σ3 (nI (2 ^ np)) (nI k) (nI (k + 1))) := fun s => by
          simp only [fX6_rest_120, bsm, v2, fX6_rest_132, nI_1]
        have fin : ∀ s : Int32, (s = -1 ∨ ∃ m, m < 2 ^ np ∧ s = nI m) → ∃ x' y', (x' = y' ∧ (x' = -1 ∨ ∃ m, m < 2 ^ np ∧ x' = nI m)) ∧ fX0_rest_122 K a (fun h' b2 b3 => fX0_rest_96 K a f1 h' b2 b3) (hp a M1) s (nI k) = fX0_rest_96 K a f1 (hp a M1) x' (nI (k + 1)) ∧ fX6_rest_120 (fun σ' b2 b3 b4 => fX6_rest_97 f2 σ' b2 b3 b4) σ3 (nI (2 ^ np)) s (nI k) = fX6_rest_97 f2 σ3 (nI (2 ^ np)) y' (nI (k + 1)) := fun s hv => by
          rw [in1, in2]
          by_cases hv0 : v = 0
          · exact ⟨s, s, ⟨rfl, hv⟩, if_pos hv0, if_pos hv0⟩
          · exact ⟨nI k, nI k, ⟨rfl, Or.inr ⟨k, hk, rfl⟩⟩, if_neg hv0, if_neg hv0⟩
        by_cases hs1 : s = -1
        · obtain ⟨x', y', g1, g2, g3⟩ := fin s hv
          refine ⟨x', y', g1, ?_, ?_⟩
          · rw [← g2]
            simp only [fX0_rest_96, x_rcv, bsm, X.people hM.same, hs, if_neg kk, if_pos hs1]
          · rw [← g3]
            simp only [fX6_rest_97, if_neg kk, if_pos hs1]
        · obtain ⟨m, hm, rfl⟩ := hv.resolve_left hs1
          by_cases hl : nI (pop m) ≤ nI (pop k)
          · refine ⟨nI m, nI m, ⟨rfl, hv⟩, ?_, ?_⟩
            · simp only [fX0_rest_96, x_rcv, bsm, X.people hM.same, hs, if_neg kk, if_neg hs1, pop_c K (hp a M1) k (by omega), pop_c K (hp a M1) m (by omega), if_pos hl, fX0_rest_132, nI_1]
            · simp only [fX6_rest_97, if_neg kk, if_neg hs1, bitsT σ3 (show k < 32 by omega), bitsT σ3 (show m < 32 by omega), bsm, if_pos hl, fX6_rest_132, nI_1]
          · obtain ⟨x', y', g1, g2, g3⟩ := fin (nI m) hv
            refine ⟨x', y', g1, ?_, ?_⟩
            · rw [← g2]
              simp only [fX0_rest_96, x_rcv, bsm, X.people hM.same, hs, if_neg kk, if_neg hs1, pop_c K (hp a M1) k (by omega), pop_c K (hp a M1) m (by omega), if_neg hl]
            · rw [← g3]
              simp only [fX6_rest_97, if_neg kk, if_neg hs1, bitsT σ3 (show k < 32 by omega), bitsT σ3 (show m < 32 by omega), bsm, if_neg hl]
      · rintro f1 f2 s s' ⟨rfl, hv⟩
        have kk := nI_le (Nat.le_refl (2 ^ np)) (show 2 ^ np < 2 ^ 31 by omega)
        exact ⟨s, by simp only [fX0_rest_96, x_rcv, bsm, X.people hM.same, hs, if_pos kk], by simp only [fX6_rest_97, if_pos kk]⟩
    obtain ⟨v, v1, v2⟩ := key
    exact ⟨σ3, v, k1, v1, v2, IV.think X H hN E.next hM hR k2 k3 k4⟩
  have key : ∃ M3 σ4 v, fX0_rest_17 K a FU (hp a M) (nI q) (-1) 0 = some (hp a M3, v) ∧ fX6_rest_26 FU σ1 (nI q) (nI (2 ^ np)) 0 = some (σ4, v) ∧ IV K a (hp a M3) σ4 (n + 1) := by
    refine lp2z (F := fun n (s : HS) k => fX0_rest_17 K a n s (nI q) (-1) k) (G := fun n (s : MS) k => fX6_rest_26 n s (nI q) (nI (2 ^ np)) k) (N := 2 ^ np)
      (I := fun k s s' => ∃ M1, s = hp a M1 ∧ MU M M1 ∧ (∃ π kp, RS a M1 1 π kp) ∧ TH σ s' ∧ s'.2.2.1 54 = σ.2.2.1 54 ∧ BS M1 s' np k)
      (P := fun r r' => ∃ M3 σ4 v, r = some (hp a M3, v) ∧ r' = some (σ4, v) ∧ IV K a (hp a M3) σ4 (n + 1)) (by omega) ⟨M, rfl, MU.refl M, E.1 1 i1, s2, s3, fun z p hz => absurd hz (by omega)⟩ ?_ ?_
    · rintro f1 f2 s s' k hk ⟨M1, rfl, hM, hR, T, e54, hB⟩
      refine Or.inl ?_
      have kk := nI_ge hk (show 2 ^ np < 2 ^ 31 by omega)
      obtain ⟨M2, M3, σ2, σ3, v, d1, d2, d3, d4, d5, d6, d7, d8, d9, d10⟩ := tryP_ok (K := K) (n := q) (hr := hr) X H (by omega) (by omega) hk N2 N3 hM hR T e54
      obtain ⟨σ4, g3, g4, g5, g6, g7⟩ := d7.anew
      obtain ⟨M5, σ5, r1, r2, r3, r4, r5, r6, r7⟩ := rest_in (K := K) X (show k < 32 by omega) d5 d6 g4 g5 (fun z p hz hp => by rw [d9 _ (by omega), g6, d10]; exact hB z p hz hp) (fun p hp => by rw [g6]; exact (d8 p (by omega)).1) (nI q) (-1) (fun h' b1 b2 b3 => fX0_rest_17 K a f1 h' b1 b2 b3) (fun σ' b1 b2 b3 => fX6_rest_26 f2 σ' b1 b2 b3) (nI (2 ^ np))
      refine ⟨_, _, ⟨M5, rfl, r3, r4, r5, r6, r7⟩, ?_, ?_⟩
      · simp only [fX0_rest_17, x_rcv, bsm, X.people hM.same, hs, if_neg kk, x_g10, x_g9, s_rcv i1, d1, s_p1 i1, d3]
        exact r1
      · simp only [fX6_rest_26, if_neg kk, d2, bsm, d4, g3]
        exact r2
    · rintro f1 f2 s s' ⟨M1, rfl, hM, hR, T, e54, hB⟩
      have kk := nI_le (Nat.le_refl (2 ^ np)) (show 2 ^ np < 2 ^ 31 by omega)
      obtain ⟨σ3, v, k1, k2, k3, k4⟩ := second M1 s' hM hR T hB
      exact ⟨M1, σ3, v, by simp only [fX0_rest_17, x_rcv, bsm, X.people hM.same, hs, if_pos kk, k2], by simp only [fX6_rest_26, if_pos kk, k1, bsm, k3], k4⟩
  obtain ⟨M3, σ4, v, k1, k2, k3⟩ := key
  exact ⟨hp a M3, σ4, v, by simp only [fX0_rest, x_rcv, bsm, c2', if_neg n01, k1], by simp only [fX6_rest, t2', bsm, if_neg n01, X.persM, s1, hs, k2], k3⟩
end PSW

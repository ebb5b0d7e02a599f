/-! PLAIN LAW, acts: press, show, hours, chance -/
set_option maxRecDepth 100000
section PAC
variable {K : KE} {a i j n k f p w m nk nf np hr kp u nw : Nat} {M M0 M' M1 M2 : CM} {σ σ0 σ' σ1 σ2 : MS} {pt : Nat → Nat} {π κ : Nat → Nat} {vl vf vm : Option Nat} {g : Nat → Int32}
theorem RE.act (E : RE K a M σ n nf np pt) (hn : np ≤ 5) (F : MF 0 M M2) (T : TF σ σ2) (R : RS a M2 0 π kp) : RE K a M2 σ2 n nf np pt := by
  obtain ⟨π1, kp1, R1⟩ := E.1 1 (by omega)
  exact E.fr hn (F.me (by omega)) T.te ⟨π, kp, R⟩ ⟨π1, kp1, R1.to (by rw [F.1 _ (by show 75 < 16 ∨ 16 + 59 ≤ 75; omega)]) (F.2.2.1 _ (by show 75 + 16 ≠ 16 + 16; omega))⟩
theorem IV.act (X : HX a M σ nk nf np pt vl vf vm) (H : HTs K a M.2.2.2.1 σ vl vf vm) (h9 : hr ≤ 23999 ∧ pt 9 = 0) (E : RE K a M σ n nf np pt) (F : MF 0 M M2) (T : TF σ σ2) (S : SR M2 0 (σ2.2.2.1 54) np pt hr) (R : RS a M2 0 π kp) (KR' : KR M2 0 (σ2.2.2.1 54) π kp) : IV K a (hp a M2) σ2 n :=
  ⟨M2, nk, nf, np, pt, vl, vf, vm, rfl, X.to (F.same (by omega)) T.up.up, by rw [(F.same (i := 0) (by omega)).2]; exact H.up T.up.up, ⟨hr, π, kp, h9, S, R, KR'⟩, E.act X.bk.2.2 F T R⟩
/-- refused: for both -/
theorem IV.no {h : HS} (I : IV K a h σ n) (hk : k < 6) : ∃ h' σ', fX0_refuses K h a (nI k) = some (h', -1) ∧ rcv K h (some a) 0 = some a ∧ aI σ 9 (nI k) = some (σ.2.2.1 9 k) ∧ tI σ 9 (nI k) (σ.2.2.1 9 k + 1) = some σ' ∧ IV K a h' σ' n := by
  obtain ⟨M, nk, nf, np, pt, vl, vf, vm, rfl, X, H, N, E⟩ := id I
  obtain ⟨M1, e1, e2, e3⟩ := I.ref hk
  obtain ⟨t1, t2⟩ := refT hk σ
  exact ⟨_, _, by rw [e1]; exact e2, x_rcv, t1, t2, e3⟩
theorem flip_a : ∀ m, m < 32 → ∀ p, p < 5 → ∀ q, q < 5 → (m ^^^ 2 ^ p) / 2 ^ q % 2 = if q = p then 1 - m / 2 ^ p % 2 else m / 2 ^ q % 2 := by decide +kernel
theorem ps24 : PS24 K a (IV K a) := by
  intro h σ n x y hn I
  have I' := I.next
  obtain ⟨h', σ', r1, r2, r3, r4, r5⟩ := I'.no (k := 2) (by omega)
  have r1' : fX0_refuses K h a (2 : Int32) = some (h', -1) := r1
  have r3' : aI σ 9 (2 : Int32) = some (σ.2.2.1 9 2) := r3
  have r4' : tI σ 9 (2 : Int32) (σ.2.2.1 9 2 + 1) = some σ' := r4
  have noC : fX0_press_41 K a h = some (h', 0) := by
    simp only [fX0_press_41, r2, bsm, r1', if_pos (show (-1 : Int32) < 0 by decide)]
  have noT : fX6_press_36 σ = some (σ', 0) := by
    simp only [fX6_press_36, r3', bsm, r4']
  obtain ⟨M, nk, nf, np, pt, vl, vf, vm, rfl, X, H, N, E⟩ := I
  obtain ⟨hr, π, kp, N1, N2, N3, N4⟩ := N
  have b := X.bk
  have e0 := SameH.refl M
  have i0 : 0 < 22 := by omega
  rcases X.isPers K x with ⟨p, hp', rfl, c1, t1⟩ | ⟨c1, t1⟩
  rotate_left
  · exact ⟨_, _, 0, by simp only [fX0_press, x_rcv, bsm, c1 M e0, if_true, noC], by simp only [fX6_press, t1, bsm, if_true, noT], r5⟩
  rcases rng K (hp a M) σ (show 2 < 2 ^ 31 by omega) y with ⟨j, j1, rfl, c3, t3⟩ | ⟨c3, t3⟩
  rotate_left
  · have c3' : fX0_is K (hp a M) y 0 1 = some 0 := c3
    have t3' : fX6_isIn σ y.toInt64 0 1 = some 0 := t3
    exact ⟨_, _, 0, by simp only [fX0_press, x_rcv, bsm, c1 M e0, if_neg n01, c3', if_true, noC], by simp only [fX6_press, t1, bsm, if_neg n01, t3', if_true, noT], r5⟩
  have c3' : fX0_is K (hp a M) (nI j) 0 1 = some 1 := c3
  have t3' : fX6_isIn σ (nI j).toInt64 0 1 = some 1 := t3
  obtain ⟨m, m1, m0, m2, m3, m4⟩ := SR.press X N2
  have cst : fX0_press K (hp a M) a (nI p) (nI j) = fX0_press_38 K a (hp a M) (nI p) (nI (m / 2 ^ p % 2)) (nI j) := by
    simp only [fX0_press, x_rcv, bsm, c1 M e0, if_neg n01, c3', x_g9, s_g1 i0, m2, c_has K _ (show m < 2 ^ 31 by omega) (show p < 31 by omega)]
    rcases (show j = 0 ∨ j = 1 by omega) with e | e <;> subst e
    · rw [if_neg (by decide)]; rfl
    · rw [if_pos (by decide)]; rfl
  have tst : fX6_press σ (nI p) (nI j) = fX6_press_33 σ (nI p) (nI j) (nI (m / 2 ^ p % 2)) (nI j) := by
    simp only [fX6_press, t1, bsm, if_neg n01, t3', m3 p hp']
    rcases (show j = 0 ∨ j = 1 by omega) with e | e <;> subst e
    · rw [if_neg (by decide)]; rfl
    · rw [if_pos (by decide)]; rfl
  by_cases hb : m / 2 ^ p % 2 = j
  · exact ⟨_, _, 0, by rw [cst]; simp only [fX0_press_38, if_pos (congrArg nI hb), noC], by rw [tst]; simp only [fX6_press_33, if_pos (congrArg nI hb), noT], r5⟩
  · have hb' : ¬ nI (m / 2 ^ p % 2) = nI j := by rw [nI_eqE (by omega) (by omega)]; exact hb
    obtain ⟨M1, σ1, k1, k2, X1, H1, S1, R1, K1, E1⟩ := keeps_ok (K := K) X H N1 N2 N3 N4 E.next
    have mm : M1.1 (sbo 0) 1 = nI m := by
      obtain ⟨m', y1, y0, y2, y3, y4⟩ := SR.press X1 S1
      have e : σ1.2.2.1 54 = σ.2.2.1 54 := by
        obtain ⟨σ2, z1, z2, z3, z4, z5, z6, -⟩ := keepT (u := 0) (nw := 0) (σ := sI (sI σ 69 0) 68 0) (by rw [sI_n (by omega), sI_s]; rfl) (by omega) (by rw [sI_s]; rfl) (by omega)
        obtain ⟨-, -, -, -, -, -, -, -, ⟨u, nw, κ, q1, q2, q3, q4, q5, -⟩, -⟩ := E
        obtain ⟨σ3, w1, w2, w3, w4, w5, w6, -⟩ := keepT q5 q2 q4 q1
        rw [k2] at w1
        rw [Option.some.inj w1]
        exact w6 54 (by omega)
      have e2 : fX6_pressers σ1 = fX6_pressers σ → nI m' = nI m := fun h => by
        rw [y4, m4] at h
        exact Option.some.inj h
      have e3 : ∀ q, q < np → nI (m' / 2 ^ q % 2) = nI (m / 2 ^ q % 2) := fun q hq => by
        have h1 := y3 q hq
        have h2 := m3 q hq
        have h3 : fX6_doesPress σ1 (nI q) = fX6_doesPress σ (nI q) := by
          simp only [fX6_doesPress, ki86, ki2, nI_mul, nI_add, tg54 (i := 86 + 2 * q) (by omega), e]
        rw [h3, h2] at h1
        exact (Option.some.inj h1).symm
      have e4 : m' = m := by
        refine Nat.eq_of_testBit_eq fun q => ?_
        rw [Nat.testBit_eq_decide_div_mod_eq, Nat.testBit_eq_decide_div_mod_eq]
        by_cases hq : q < np
        · have := e3 q hq
          rw [nI_eqE (by omega) (by omega)] at this
          rw [this]
        · have z1 : m' / 2 ^ q = 0 := Nat.div_eq_of_lt (Nat.lt_of_lt_of_le y0 (Nat.pow_le_pow_right (by omega) (by omega)))
          have z2 : m / 2 ^ q = 0 := Nat.div_eq_of_lt (Nat.lt_of_lt_of_le m0 (Nat.pow_le_pow_right (by omega) (by omega)))
          rw [z1, z2]
      rw [y2, e4]
    have xl : m ^^^ 2 ^ p < 2 ^ np := Nat.xor_lt_two_pow m0 (Nat.pow_lt_pow_right (by omega) hp')
    obtain ⟨-, ⟨m', y1, y2, y3⟩, -⟩ := id S1
    have hmm : m' = m := by
      rw [mm] at y2
      have : m' < 2 ^ 31 := Nat.lt_of_lt_of_le y1 (Nat.pow_le_pow_right (by omega) (by omega))
      rw [nI_eqE (by omega) this] at y2
      exact y2.symm
    subst hmm
    have S2 : SR (mI M1 (sbo 0) 1 (nI (m' ^^^ 2 ^ p))) 0 ((sA σ1 54 (86 + 2 * p) (nI j)).2.2.1 54) np pt hr := S1.setP xl (fun q hq => by
      rw [sA_e, flip_a m' m1 p (by omega) q (by omega)]
      by_cases e : q = p
      · rw [if_pos (by omega), if_pos e]
        exact congrArg nI (by omega)
      · rw [if_neg (by omega), if_neg e]
        exact y3 q hq) (fun q hq h => by rw [sA_m (h p hp')]) b.2.2
    refine ⟨hp a (mI M1 (sbo 0) 1 (nI (m' ^^^ 2 ^ p))), sA σ1 54 (86 + 2 * p) (nI j), 1, ?_, ?_, IV.act X1 H1 N1 E1 ((MF.refl 0 M1).mI (by omega) (by omega)) ((TF.refl σ1).sA (by omega)) S2 (R1.to (by rw [mI_n (by omega)]) rfl) (K1.to R1.1 (fun k hk => (R1.2.2.1 k hk).1) (fun r hr => by rw [mI_o (by omega)]) (fun q hq => by rw [sA_m (by omega)]))⟩
    · rw [cst]
      simp only [fX0_press_38, if_neg hb', x_rcv, bsm, k1, x_g9, s_g1 i0, mm, shl1 p (by omega), xr_nI m' m1 p (by omega), s_p1 i0]
    · rw [tst]
      simp only [fX6_press_33, if_neg hb', k2, bsm, ki86, ki2, nI_mul, nI_add, tp54 (i := 86 + 2 * p) (by omega)]
theorem ps25 : PS25 K a (IV K a) := by
  intro h σ n x y hn I
  have I' := I.next
  obtain ⟨h', σ', r1, r2, r3, r4, r5⟩ := I'.no (k := 2) (by omega)
  have r1' : fX0_refuses K h a (2 : Int32) = some (h', -1) := r1
  have r3' : aI σ 9 (2 : Int32) = some (σ.2.2.1 9 2) := r3
  have r4' : tI σ 9 (2 : Int32) (σ.2.2.1 9 2 + 1) = some σ' := r4
  have noC : fX0_show_35 K a h = some (h', -1000000000000000) := by
    simp only [fX0_show_35, r2, bsm, r1']
  have noT : fX6_show_34 σ = some (σ', -1000000000000000) := by
    simp only [fX6_show_34, r3', bsm, r4']
  obtain ⟨M, nk, nf, np, pt, vl, vf, vm, rfl, X, H, N, E⟩ := I
  obtain ⟨hr, π, kp, N1, N2, N3, N4⟩ := N
  have b := X.bk
  have e0 := SameH.refl M
  have i0 : 0 < 22 := by omega
  rcases X.isPers K x with ⟨p, hp', rfl, c1, t1⟩ | ⟨c1, t1⟩
  rotate_left
  · exact ⟨_, _, -1000000000000000, by simp only [fX0_show, x_rcv, bsm, c1 M e0, if_true, noC], by simp only [fX6_show, t1, bsm, if_true, noT], r5⟩
  rcases X.isFilm K y with ⟨f, hf, rfl, c2, t2⟩ | ⟨c2, t2⟩
  rotate_left
  · exact ⟨_, _, -1000000000000000, by simp only [fX0_show, x_rcv, bsm, c1 M e0, if_neg n01, c2 M e0, if_true, noC], by simp only [fX6_show, t1, bsm, if_neg n01, t2, if_true, noT], r5⟩
  obtain ⟨m, -, -, -, w, -, w2, w3, w4⟩ := N2.prof (a := a) K i0 b.2.2 hp'
  obtain ⟨s, o1, o2, o3, o4, o5⟩ := X.over K i0 (show w < 6 by omega) hf N2
  have vb := X.v.2.2.1 f
  by_cases hs : s = pt f
  · rw [if_pos hs] at o3
    exact ⟨_, _, -1000000000000000, by simp only [fX0_show, x_rcv, bsm, c1 M e0, if_neg n01, c2 M e0, x_g9, s_rcv i0, w3, o3, noC], by simp only [fX6_show, t1, bsm, if_neg n01, t2, w4, o4, o5, if_pos (congrArg nI hs), noT], r5⟩
  · rw [if_neg hs] at o3
    have o6 : ¬ nI s = nI (pt f) := by rw [nI_eqE (by omega) (by omega)]; exact hs
    obtain ⟨M1, σ1, k1, k2, X1, H1, S1, R1, K1, E1⟩ := keeps_ok (K := K) X H N1 N2 N3 N4 E.next
    have e54 : σ1.2.2.1 54 = σ.2.2.1 54 := by
      obtain ⟨-, -, -, -, -, -, -, -, ⟨u, nw, κ, q1, q2, q3, q4, q5, -⟩, -⟩ := E
      obtain ⟨σ3, z1, z2, z3, z4, z5, z6, -⟩ := keepT q5 q2 q4 q1
      rw [k2] at z1
      rw [Option.some.inj z1]
      exact z6 54 (by omega)
    have wT : fX6_profileOf σ1 (nI p) = some (nI w) := by
      rw [← w4]
      simp only [fX6_profileOf, fX6_doesPress, ki86, ki2, nI_mul, nI_add, tg54 (i := 86 + 2 * p) (by omega), e54]
    have h60 : σ1.1 60 = 0 := E1.2.2.2.2.2.2.2.2.2.1
    obtain ⟨M3, v3, σa, σb, σc, π3, kp3, y1, y2, y3, y4, y5, y6, y7, y8, y9, y10, y11, y12, y13, y14, -⟩ := sees_ok (K := K) X1 H1 i0 hp' hf S1 R1 (fun _ => K1) (show w < 6 by omega) wT (by rw [e54]; exact o2) (show s < pt f by omega)
    refine ⟨hp a M3, σc, v3.toInt64, ?_, ?_, IV.act X1 H1 N1 E1 y10 y14.tf y5 y6 (y7 h60)⟩
    · simp only [fX0_show, x_rcv, bsm, c1 M e0, if_neg n01, c2 M e0, x_g9, s_rcv i0, w3, o3, if_true, k1, y1]
    · simp only [fX6_show, t1, bsm, if_neg n01, t2, w4, o4, o5, if_neg o6, k2, wT, y2, y3, y4, y9]
theorem ps26 : PS26 K a (IV K a) := by
  intro h σ n x hn I
  have I' := I.next
  obtain ⟨h', σ', r1, r2, r3, r4, r5⟩ := I'.no (k := 3) (by omega)
  have r1' : fX0_refuses K h a (3 : Int32) = some (h', -1) := r1
  have noT : fX6_refuses σ (3 : Int32) = some (σ', -1) := by
    have r3' : aI σ 9 (3 : Int32) = some (σ.2.2.1 9 3) := r3
    have r4' : tI σ 9 (3 : Int32) (σ.2.2.1 9 3 + 1) = some σ' := r4
    simp only [fX6_refuses, r3', bsm, r4']
  obtain ⟨M, nk, nf, np, pt, vl, vf, vm, rfl, X, H, N, E⟩ := I
  obtain ⟨hr, π, kp, N1, N2, N3, N4⟩ := N
  have b := X.bk
  have i0 : 0 < 22 := by omega
  rcases ahead_ok (K := K) X N2 (lo := 1) (hi := 100) (by omega) (by omega) x with ⟨q, q1, q2, q3, rfl, c2, t2⟩ | ⟨-, c2, t2⟩
  rotate_left
  · have c2' : fX0_isAhead K (hp a M) a x 1 100 = some 0 := c2 M (MU.refl M)
    have t2' : fX6_isAhead σ x 1 100 = some 0 := t2
    exact ⟨_, _, -1, by simp only [fX0_hours, x_rcv, bsm, c2', if_true, r1'], by simp only [fX6_hours, t2', bsm, if_true, noT], r5⟩
  have c2' : fX0_isAhead K (hp a M) a (nI q) 1 100 = some 1 := c2 M (MU.refl M)
  have t2' : fX6_isAhead σ (nI q) 1 100 = some 1 := t2
  obtain ⟨M1, σ1, k1, k2, X1, H1, S1, R1, K1, E1⟩ := keeps_ok (K := K) X H N1 N2 N3 N4 E.next
  have h60 : σ1.1 60 = 0 := E1.2.2.2.2.2.2.2.2.2.1
  obtain ⟨σ0, z1, z2, z3, z4, z5, z6⟩ := zero_ok σ1 (nI q) 0
  have T0 : TF σ1 σ0 := ⟨fun k _ _ _ _ _ => by rw [z2], z3, fun k _ _ q => z4 k q, fun k q _ => z5 k q⟩
  have e54 : σ0.2.2.1 54 = σ1.2.2.1 54 := z4 54 (by omega)
  have X0 := X1.to (SameH.refl M1) T0.up.up
  have H0 := H1.up T0.up.up
  have J0 : HJ a M1 σ0 0 np pt hr False 0 0 M1 σ0 := HJ.zero (by rw [e54]; exact S1) R1 (fun _ => by rw [e54]; exact K1) (fun h => h.elim)
  have key : ∃ M' σ' v, fX0_hours_25 K a FU (hp a M1) (nI q) 0 0 = some (hp a M', v) ∧ fX6_hoursGo_31 FU σ0 (nI q) 0 0 = some (σ', v) ∧ HJ a M1 σ0 0 np pt hr False 0 q M' σ' := by
    refine lp2z (F := fun f (x : HS × Int32) k => fX0_hours_25 K a f x.1 (nI q) x.2 k) (G := fun f (y : MS × Int32) k => fX6_hoursGo_31 f y.1 (nI q) y.2 k) (N := q) (x := (hp a M1, 0)) (y := (σ0, 0)) (I := fun k x y => ∃ M' σ' v, x = (hp a M', v) ∧ y = (σ', v) ∧ HJ a M1 σ0 0 np pt hr False 0 k M' σ') (P := fun r r' => ∃ M' σ' v, r = some (hp a M', v) ∧ r' = some (σ', v) ∧ HJ a M1 σ0 0 np pt hr False 0 q M' σ') (by omega) ⟨M1, σ0, 0, rfl, rfl, J0⟩ ?_ ?_
    · rintro f1 f2 x y k hk ⟨M', σ', v, rfl, rfl, J⟩
      have kk := nI_ge hk (show q < 2 ^ 31 by omega)
      obtain ⟨M2, σ2, c, c1, c2, c3, c4, -⟩ := J.step (K := K) X0 H0 i0 (by omega) (by omega)
      refine Or.inl ⟨(hp a M2, v + nI c), (σ2, v + nI c), ⟨M2, σ2, v + nI c, rfl, rfl, c4⟩, ?_, ?_⟩
      · simp only [fX0_hours_25, if_neg kk, x_g9, s_rcv i0, bsm, c2, nI_1]
      · simp only [fX6_hoursGo_31, if_neg kk, c3, bsm, nI_1]
    · rintro f1 f2 x y ⟨M', σ', v, rfl, rfl, J⟩
      have kk := nI_le (Nat.le_refl q) (show q < 2 ^ 31 by omega)
      exact ⟨M', σ', v, by simp only [fX0_hours_25, if_pos kk], by simp only [fX6_hoursGo_31, if_pos kk], J⟩
  obtain ⟨M3, σ3, v, f1, f2, S3, ⟨π3, kp3, R3, K3⟩, -, F3, T3, -⟩ := key
  have h60' : σ0.1 60 = 0 := by rw [z2]; exact h60
  refine ⟨hp a M3, σ3, v, ?_, ?_, IV.act X1 H1 ⟨q3, N1.2⟩ E1 F3 (T0.tr T3) S3 R3 (K3 h60')⟩
  · simp only [fX0_hours, x_rcv, bsm, c2', if_neg n01, k1, f1]
  · have g1 : fX6_hoursGo σ1 (nI q) = some (σ3, v) := by unfold fX6_hoursGo; rw [z1, f2]
    simp only [fX6_hours, t2', bsm, if_neg n01, k2, g1]
-- chance
theorem lN_big {x : Nat} (h : x < 2 ^ 63) : (lN x).toInt = (x : Int) := Int64.toInt_ofNat_of_lt h
theorem divL {x d : Nat} (hn : x < 2 ^ 62) (h0 : 0 < d) (hd : d < 2 ^ 62) : lN x / lN d = lN (x / d) := by
  have hq : x / d ≤ x := Nat.div_le_self x d
  have hne : lN d ≠ -1 := fun q => by
    have := congrArg Int64.toInt q
    rw [lN_big (by omega)] at this
    have e : (-1 : Int64).toInt = -1 := by decide
    omega
  apply Int64.toInt_inj.mp
  rw [Int64.toInt_div_of_ne_right _ _ hne, lN_big (by omega), lN_big (by omega), lN_big (by omega)]
  exact Int.ofNat_tdiv x d
theorem modL {x d : Nat} (hn : x < 2 ^ 62) (h0 : 0 < d) (hd : d < 2 ^ 62) : lN x - lN x / lN d * lN d = lN (x % d) := by
  have h1 := Nat.div_add_mod x d
  have h2 := Nat.mul_comm d (x / d)
  rw [divL hn h0 hd, lN_mul, lN_sub (by omega)]
  exact congrArg lN (by omega)
theorem draw_ok (Z : ZS M σ) {d : Nat} (h0 : 0 < d) (hd : d ≤ 100) : ∃ s r, s < 2 ^ 31 ∧ r < d ∧ fX0_draw K (hp a M) a (nI d) = some (hp a (mL M 0 18 (lN s)), nI r) ∧ fX6_drawOf σ (nI d) = some (sL σ 70 (lN s), nI r) := by
  obtain ⟨s0, q1, q2, q3⟩ := Z
  have e1 : (1103515245 : Int64) * lN s0 + 12345 - ((1103515245 : Int64) * lN s0 + 12345) / 2147483648 * 2147483648 = lN ((1103515245 * s0 + 12345) % 2147483648) := by
    have k1 : (1103515245 : Int64) * lN s0 + 12345 = lN (1103515245 * s0 + 12345) := by
      rw [show (1103515245 : Int64) = lN 1103515245 from rfl, show (12345 : Int64) = lN 12345 from rfl, lN_mul, lN_add]
    rw [k1]
    exact modL (d := 2147483648) (by omega) (by omega) (by omega)
  obtain ⟨s, hs⟩ : ∃ s, s = (1103515245 * s0 + 12345) % 2147483648 := ⟨_, rfl⟩
  have hs2 : s < 2 ^ 31 := by omega
  rw [← hs] at e1
  have e2 : lN s / 64 - lN s / 64 / (nI d).toInt64 * (nI d).toInt64 = lN (s / 64 % d) := by
    rw [nI_l (by omega), show (64 : Int64) = lN 64 from rfl, divL (by omega) (by omega) (by omega)]
    exact modL (by omega) h0 (by omega)
  have nz' : nzl (nI d).toInt64 = some (nI d).toInt64 := by
    unfold nzl
    rw [nI_l (by omega), if_neg]
    intro q
    have := congrArg Int64.toInt q
    rw [lN_toInt (by omega), k0l] at this
    omega
  refine ⟨s, s / 64 % d, hs2, Nat.mod_lt _ h0, ?_, ?_⟩
  · simp only [fX0_draw, x_g18, q2, bsm, e1, x_p18, mL_s, nz', e2, lN_i]
  · simp only [fX6_drawOf, nz', bsm, q3, e1, sL_2, if_true, e2, lN_i]
theorem RE.seed (E : RE K a M σ n nf np pt) {s : Nat} (hs : s < 2 ^ 31) : RE K a (mL M 0 18 (lN s)) (sL σ 70 (lN s)) n nf np pt := by
  obtain ⟨h1, h2, h3, h4, h5, h6, h7, h8, h9, h10, h11⟩ := E
  exact ⟨h1, h2, h3, h4, h5, h6, ⟨s, hs, mL_s, by rw [sL_2, if_pos rfl]⟩, h8, h9, h10, h11⟩
/-- a whole world at an hour -/
def WH (K : KE) (a n nk nf np : Nat) (pt : Nat → Nat) (vl vf vm : Option Nat) (hr : Nat) (M : CM) (σ : MS) : Prop := HX a M σ nk nf np pt vl vf vm ∧ HTs K a M.2.2.2.1 σ vl vf vm ∧ (∃ π kp, SR M 0 (σ.2.2.1 54) np pt hr ∧ RS a M 0 π kp ∧ KR M 0 (σ.2.2.1 54) π kp) ∧ RE K a M σ n nf np pt
theorem WH.act (W : WH K a n nk nf np pt vl vf vm hr M σ) {hr' : Nat} (F : MF 0 M M2) (T : TF σ σ2) (S : SR M2 0 (σ2.2.2.1 54) np pt hr') (R : RS a M2 0 π kp) (KR' : KR M2 0 (σ2.2.2.1 54) π kp) : WH K a n nk nf np pt vl vf vm hr' M2 σ2 := by
  obtain ⟨X, H, -, E⟩ := W
  exact ⟨X.to (F.same (by omega)) T.up.up, by rw [(F.same (i := 0) (by omega)).2]; exact H.up T.up.up, ⟨π, kp, S, R, KR'⟩, E.act X.bk.2.2 F T R⟩
theorem WH.pass (W : WH K a n nk nf np pt vl vf vm hr M σ) (hb : hr + 1 < 30000) : ∃ M' σ' c, fX5_passes K (hp a M) (a + sbo 0) = some (hp a M', nI c) ∧ fX6_hourGoes σ = some (σ', nI c) ∧ WH K a n nk nf np pt vl vf vm (hr + 1) M' σ' := by
  obtain ⟨X, H, ⟨π, kp, S, R, K'⟩, E⟩ := id W
  obtain ⟨M', σ', c, -, e1, e2, S', ⟨π', kp', R', K2⟩, -, F, T, -⟩ := passes_ok (K := K) X H (show 0 < 22 by omega) hb S R (fun _ => K') False (B := 0) (by omega) (fun h => h.elim)
  exact ⟨M', σ', c, e1, e2, W.act F T S' R' (K2 E.2.2.2.2.2.2.2.2.2.1)⟩
theorem WH.draw (W : WH K a n nk nf np pt vl vf vm hr M σ) {s : Nat} (hs : s < 2 ^ 31) : WH K a n nk nf np pt vl vf vm hr (mL M 0 18 (lN s)) (sL σ 70 (lN s)) := by
  obtain ⟨X, H, ⟨π, kp, S, R, K'⟩, E⟩ := W
  exact ⟨X.to ⟨rfl, rfl⟩ (UpE.refl σ).up, H, ⟨π, kp, S, R, K'⟩, E.seed hs⟩
/-- a stranger sees a part -/
theorem WH.stranger (W : WH K a n nk nf np pt vl vf vm hr M σ) (hf : f < nf) : ∃ M' σ' v, (v = 0 ∨ v = 1) ∧ fX5_isStranger K (hp a M) (a + sbo 0) (nI f) = some (hp a M', v) ∧ WH K a n nk nf np pt vl vf vm hr M' σ' ∧ ∃ s, s ≤ pt f ∧ fX6_seenBy σ 0 (nI f) = some (nI s) ∧ fX6_partsOf σ (nI f) = some (nI (pt f)) ∧ ((s = pt f ∧ v = 0 ∧ σ' = σ) ∨ (s ≠ pt f ∧ v = 1 ∧ ∃ σ1, fX6_partSeen σ 0 (nI f) = some σ1 ∧ fX6_isKept σ1 9 (nI f) = some σ')) := by
  obtain ⟨X, H, ⟨π, kp, S, R, K'⟩, E⟩ := id W
  have b := X.bk
  have i0 : 0 < 22 := by omega
  obtain ⟨s, o1, o2, o3, o4, o5⟩ := X.over K i0 (show 0 < 6 by omega) hf S
  have o3' : fX5_isOver K (hp a M) (a + sbo 0) 0 (nI f) = some (if s = pt f then 1 else 0) := o3
  have o4' : fX6_seenBy σ 0 (nI f) = some (nI s) := o4
  by_cases hs : s = pt f
  · rw [if_pos hs] at o3'
    exact ⟨M, σ, 0, Or.inl rfl, by simp only [fX5_isStranger, s_rcv i0, bsm, o3', if_neg n01], W, s, o1, o4', o5, Or.inl ⟨hs, rfl, rfl⟩⟩
  · rw [if_neg hs] at o3'
    obtain ⟨⟨a1, a2, a3, a4⟩, -, -⟩ := id S
    obtain ⟨M1, π', kp', t1, t2, t3, t4⟩ := tells_c (K := K) i0 R a1 a4 (nI 9) (nI f)
    have F1 : MF 0 M M1 := t3.mf
    have X1 := X.to (F1.same i0) (UpE.refl σ).up
    have H1 : HTs K a M1.2.2.2.1 σ vl vf vm := by rw [(F1.same i0).2]; exact H
    obtain ⟨M2, σ1, l1, l2, l3, l4, l5⟩ := learns_ok (K := K) X1 H1 i0 (show 0 < 6 by omega) hf (S.mt t3 b.2.2) o2 (show s < pt f by omega)
    have h60 : σ1.1 60 = 0 := by rw [l5.1 60 (by omega) (by omega) (by omega) (by omega) (by omega)]; exact E.2.2.2.2.2.2.2.2.2.1
    have G1 : ∀ j, 86 ≤ j → σ1.2.2.1 54 j = σ.2.2.1 54 j := fun j hj => l5.2.2.2.1 j (by omega)
    obtain ⟨σ2, u1, u2, u3⟩ := t4 σ1 ⟨by rw [G1 96 (by omega)]; exact K'.1, fun k j hk hj => by rw [G1 _ (by omega)]; exact K'.2 k j hk hj⟩ (by rw [l5.2.2.2.1 0 (by omega)]; exact a2) (by rw [l5.2.2.2.1 1 (by omega)]; exact a3) h60
    refine ⟨M2, σ2, 1, Or.inr rfl, ?_, W.act (F1.tr l4.mf) (l5.tf.tr u2.tf) (l3.m (fun _ _ => rfl) (fun j hj => u2.2.2.2.1 j hj) b.2.2) (t2.to (by rw [l4.1 _ (by omega)]) (by rw [l4.2.2])) (u3.to t2.1 (fun k hk => (t2.2.2.1 k hk).1) (fun r hr => by rw [l4.1 _ (by omega)]) (fun _ _ => rfl)), s, o1, o4', o5, Or.inr ⟨hs, rfl, σ1, l2, u1⟩⟩
    have t1' : fX5_tells K (hp a M) (a + sbo 0) 9 (nI f) = some (hp a M1) := t1
    have l1' : fX5_learns K (hp a M1) (a + sbo 0) 0 (nI f) = some (hp a M2) := l1
    simp only [fX5_isStranger, s_rcv i0, bsm, o3', if_true, t1', l1']
theorem ps27 : PS27 K a (IV K a) := by
  intro h σ n x hn I
  have I' := I.next
  obtain ⟨h', σ', r1, r2, r3, r4, r5⟩ := I'.no (k := 3) (by omega)
  have r1' : fX0_refuses K h a (3 : Int32) = some (h', -1) := r1
  have noT : fX6_refuses σ (3 : Int32) = some (σ', -1) := by
    have r3' : aI σ 9 (3 : Int32) = some (σ.2.2.1 9 3) := r3
    have r4' : tI σ 9 (3 : Int32) (σ.2.2.1 9 3 + 1) = some σ' := r4
    simp only [fX6_refuses, r3', bsm, r4']
  obtain ⟨M, nk, nf, np, pt, vl, vf, vm, rfl, X, H, N, E⟩ := I
  obtain ⟨hr, π, kp, N1, N2, N3, N4⟩ := N
  have b := X.bk
  have i0 : 0 < 22 := by omega
  rcases ahead_ok (K := K) X N2 (lo := 1) (hi := 100) (by omega) (by omega) x with ⟨q, q1, q2, q3, rfl, c2, t2⟩ | ⟨-, c2, t2⟩
  rotate_left
  · have c2' : fX0_isAhead K (hp a M) a x 1 100 = some 0 := c2 M (MU.refl M)
    have t2' : fX6_isAhead σ x 1 100 = some 0 := t2
    exact ⟨_, _, -1, by simp only [fX0_chance, x_rcv, bsm, c2', if_true, r1'], by simp only [fX6_chance, t2', bsm, if_true, noT], r5⟩
  have c2' : fX0_isAhead K (hp a M) a (nI q) 1 100 = some 1 := c2 M (MU.refl M)
  have t2' : fX6_isAhead σ (nI q) 1 100 = some 1 := t2
  obtain ⟨M1, σ1, k1, k2, X1, H1, S1, R1, K1, E1⟩ := keeps_ok (K := K) X H N1 N2 N3 N4 E.next
  have key : ∃ M' σ' v, fX0_chance_25 K a FU (hp a M1) (nI q) 0 0 = some (hp a M', v) ∧ fX6_chance_25 FU σ1 (nI q) 0 0 = some (σ', v) ∧ WH K a (n + 1) nk nf np pt vl vf vm (hr + q) M' σ' := by
    refine lp2z (F := fun f (x : HS × Int32) k => fX0_chance_25 K a f x.1 (nI q) x.2 k) (G := fun f (y : MS × Int32) k => fX6_chance_25 f y.1 (nI q) y.2 k) (N := q) (x := (hp a M1, 0)) (y := (σ1, 0)) (I := fun k x y => ∃ M' σ' v, x = (hp a M', v) ∧ y = (σ', v) ∧ WH K a (n + 1) nk nf np pt vl vf vm (hr + k) M' σ') (P := fun r r' => ∃ M' σ' v, r = some (hp a M', v) ∧ r' = some (σ', v) ∧ WH K a (n + 1) nk nf np pt vl vf vm (hr + q) M' σ') (by omega) ⟨M1, σ1, 0, rfl, rfl, X1, H1, ⟨π, kp, S1, R1, K1⟩, E1⟩ ?_ ?_
    · rintro f1 f2 x y k hk ⟨M2, σ2, v, rfl, rfl, W⟩
      have kk := nI_ge hk (show q < 2 ^ 31 by omega)
      refine Or.inl ?_
      obtain ⟨s1, d1, s1', d1', e1, e2⟩ := draw_ok (K := K) (a := a) W.2.2.2.2.2.2.2.2.2.1 (d := 100) (by omega) (by omega)
      have e1' : fX0_draw K (hp a M2) a 100 = some (hp a (mL M2 0 18 (lN s1)), nI d1) := e1
      have e2' : fX6_drawOf σ2 100 = some (sL σ2 70 (lN s1), nI d1) := e2
      have W1 := W.draw s1'
      obtain ⟨ha, g0, g2, g3, g4, g5, -⟩ := W1.1.set K
      have g0' : M2.2.2.1 0 0 = some ha := g0 _ (SameH.refl _)
      have g5' := g5 _ (SameH.refl _)
      have t47 : aI σ2 47 (7 : Int32) = some (σ2.2.2.1 47 7) := by rw [ki7, tg47 (by omega)]
      have fC : fX0_films K (hp a (mL M2 0 18 (lN s1))) a = some (nI nf) := W1.1.films (SameH.refl _)
      have fT : fX6_filmMany (sL σ2 70 (lN s1)) = some (nI nf) := W1.1.filmM
      -- no stranger
      have plain : ∀ M3 σ3 v', WH K a (n + 1) nk nf np pt vl vf vm (hr + k) M3 σ3 → ∃ x' y', (∃ M' σ' v, x' = (hp a M', v) ∧ y' = (σ', v) ∧ WH K a (n + 1) nk nf np pt vl vf vm (hr + (k + 1)) M' σ') ∧ fX0_chance_79 K a (fun h' b1 b2 b3 => fX0_chance_25 K a f1 h' b1 b2 b3) (hp a M3) (nI q) v' (nI k) = fX0_chance_25 K a f1 x'.1 (nI q) x'.2 (nI (k + 1)) ∧ fX6_chance_40 (fun σ' b1 b2 b3 => fX6_chance_25 f2 σ' b1 b2 b3) σ3 (nI q) v' (nI k) = fX6_chance_25 f2 y'.1 (nI q) y'.2 (nI (k + 1)) := fun M3 σ3 v' W3 => by
        obtain ⟨M4, σ4, c, p1, p2, p3⟩ := W3.pass (by omega)
        refine ⟨(hp a M4, v'), (σ4, v'), ⟨M4, σ4, v', rfl, rfl, p3⟩, ?_, ?_⟩
        · simp only [fX0_chance_79, x_g9, bsm, s_rcv i0, p1, nI_1]
        · simp only [fX6_chance_40, p2, bsm, nI_1]
      by_cases hst : σ2.2.2.1 47 7 ≤ nI d1
      · obtain ⟨x', y', h1, h2, h3⟩ := plain _ _ v W1
        refine ⟨x', y', h1, ?_, ?_⟩
        · rw [← h2]
          simp only [fX0_chance_25, if_neg kk, x_rcv, bsm, e1', x_g0, mL_3, g0', g5', sL_3, if_pos hst]
        · rw [← h3]
          have hi : fX6_isStranger σ2 = some (sL σ2 70 (lN s1), 0) := by
            simp only [fX6_isStranger, e2', bsm, aI_sL, t47, if_pos hst]
          simp only [fX6_chance_25, if_neg kk, hi, bsm, if_true]
      · by_cases hf0 : nf = 0
        · have f0 : nI nf = 0 := by rw [hf0]; rfl
          have f0l : nI nf ≤ 0 := by rw [hf0]; decide
          obtain ⟨x', y', h1, h2, h3⟩ := plain _ _ v W1
          refine ⟨x', y', h1, ?_, ?_⟩
          · rw [← h2]
            simp only [fX0_chance_25, if_neg kk, x_rcv, bsm, e1', x_g0, mL_3, g0', g5', sL_3, if_neg hst, fC, if_pos f0l]
          · rw [← h3]
            have hi : fX6_isStranger σ2 = some (sL σ2 70 (lN s1), 0) := by
              simp only [fX6_isStranger, e2', bsm, aI_sL, t47, if_neg hst, fT, if_pos f0]
            simp only [fX6_chance_25, if_neg kk, hi, bsm, if_true]
        · have f0 : ¬ nI nf = 0 := by rw [nI_eq0 (by omega)]; exact hf0
          have f0l : ¬ nI nf ≤ 0 := by rw [nI_le0 (by omega)]; exact hf0
          obtain ⟨s2, d2, s2', d2', e3, e4⟩ := draw_ok (K := K) (a := a) W1.2.2.2.2.2.2.2.2.2.1 (d := nf) (by omega) (by omega)
          have W2 := W1.draw s2'
          obtain ⟨M3, σ3, v3, v3', p1, W3, s, p2, p3, p4, p5⟩ := W2.stranger d2'
          rcases p5 with ⟨hs, hv, h3⟩ | ⟨hs, hv, σ4, u1, u2⟩
          · obtain ⟨x', y', h1, h2, h3'⟩ := plain M3 σ3 v W3
            refine ⟨x', y', h1, ?_, ?_⟩
            · rw [← h2]
              simp only [fX0_chance_25, if_neg kk, x_rcv, bsm, e1', x_g0, mL_3, g0', g5', sL_3, if_neg hst, fC, if_neg f0l, x_g9, e3, s_rcv i0, p1, if_pos hv, fX0_chance_77, Int32.add_zero]
            · rw [← h3', h3]
              have hi : fX6_isStranger σ2 = some (sL (sL σ2 70 (lN s1)) 70 (lN s2), 0) := by
                simp only [fX6_isStranger, e2', bsm, aI_sL, t47, if_neg hst, fT, if_neg f0, e4, p3, p4, if_pos (congrArg nI hs)]
              simp only [fX6_chance_25, if_neg kk, hi, bsm, if_true]
          · have hv0 : ¬ v3 = 0 := by rw [hv]; decide
            have hs' : ¬ nI s = nI (pt d2) := by
              have := W2.1.v.2.2.1 d2
              rw [nI_eqE (by omega) (by omega)]; exact hs
            obtain ⟨x', y', h1, h2, h3'⟩ := plain M3 σ3 (v + 1) W3
            refine ⟨x', y', h1, ?_, ?_⟩
            · rw [← h2]
              simp only [fX0_chance_25, if_neg kk, x_rcv, bsm, e1', x_g0, mL_3, g0', g5', sL_3, if_neg hst, fC, if_neg f0l, x_g9, e3, s_rcv i0, p1, if_neg hv0, fX0_chance_77]
            · rw [← h3']
              have hi : fX6_isStranger σ2 = some (σ3, 1) := by
                simp only [fX6_isStranger, e2', bsm, aI_sL, t47, if_neg hst, fT, if_neg f0, e4, p3, p4, if_neg hs', u1, u2]
              simp only [fX6_chance_25, if_neg kk, hi, bsm, if_neg n01]
    · rintro f1 f2 x y ⟨M', σ', v, rfl, rfl, W⟩
      have kk := nI_le (Nat.le_refl q) (show q < 2 ^ 31 by omega)
      exact ⟨M', σ', v, by simp only [fX0_chance_25, if_pos kk], by simp only [fX6_chance_25, if_pos kk], W⟩
  obtain ⟨M3, σ3, v, f1, f2, X3, H3, ⟨π3, kp3, S3, R3, K3⟩, E3⟩ := key
  exact ⟨hp a M3, σ3, v, by simp only [fX0_chance, x_rcv, bsm, c2', if_neg n01, k1, f1], by simp only [fX6_chance, t2', bsm, if_neg n01, k2, f2], M3, nk, nf, np, pt, vl, vf, vm, rfl, X3, H3, ⟨hr + q, π3, kp3, ⟨q3, N1.2⟩, S3, R3, K3⟩, E3⟩
end PAC

/-! PLAIN LAW, what is tried: pleased, refused, pressing, gone, sow -/
set_option maxRecDepth 100000
section PTY
variable {K : KE} {a i j n k f p w m nk nf np hr kp B : Nat} {M M0 M' M1 M2 : CM} {σ σ0 σ' σ1 σ2 : MS} {pt : Nat → Nat} {π : Nat → Nat} {vl vf vm : Option Nat}
/-- now is copied to what is tried -/
theorem cpy_ok (S : SR M 0 (σ.2.2.1 54) np pt hr) (hn : np ≤ 5) (R0 : RS a M 0 π kp) (hM : MU M M1) (R1 : ∃ π kp, RS a M1 1 π kp) : ∃ M2, fX5_copy K (hp a M1) (a + sbo 1) (some (a + sbo 0)) = some (hp a M2, some (a + sbo 1)) ∧ MU M M2 ∧ SR M2 1 (σ.2.2.1 54) np pt hr ∧ (∃ π kp, RS a M2 1 π kp) ∧ (∀ k, k < 5 → M2.2.1 (sbo 1 + 57) k = 0 ∧ M2.1 (sbo 1 + 58) k = 0) ∧ (∀ o, 134 ≤ o → M2.2.1 o = M1.2.1 o) := by
  obtain ⟨π1, kp1, R1⟩ := R1
  have e0 : ∀ o, o < 75 → M1.1 o = M.1 o := fun o h => hM.1 o (Or.inl h)
  have R0' : RS a M1 0 π kp := R0.to (by rw [e0 _ (by show 16 < 75; omega)]) (hM.2.2.1 _ (by show 16 + 16 ≠ 91; omega))
  have S' : SR M1 0 (σ.2.2.1 54) np pt hr := S.m (fun t ht => e0 _ (by show 16 + t < 75; omega)) (fun _ _ => rfl) hn
  obtain ⟨M2, c1, c2, c3, c4⟩ := copy_ok (K := K) (i := 1) (j := 0) (by omega) (by omega) (by omega) R1 R0'
  exact ⟨M2, c1, hM.tr (MU.of c2.1), S'.cp c2 hn, ⟨_, _, c3⟩, c2.2.2.2.2.2.2.2, fun o h => c2.1.2.1 o (Or.inr (by show 75 + 59 ≤ o; omega)) (by omega)⟩
/-- n hours of what is tried -/
theorem try_ok (X : HX a M σ nk nf np pt vl vf vm) (H : HTs K a M.2.2.2.1 σ vl vf vm) (hn : n ≤ 100) (hb : hr ≤ 24000) (hM : MU M M2) (T : TH σ σ1) (S : SR M2 1 (σ1.2.2.1 54) np pt hr) (R : ∃ π kp, RS a M2 1 π kp) (hz : ∀ k, k < 5 → M2.2.1 (sbo 1 + 57) k = 0 ∧ M2.1 (sbo 1 + 58) k = 0) : ∃ M3 σ3 v, fX5_hours K (hp a M2) (a + sbo 1) (nI n) = some (hp a M3, some (a + sbo 1)) ∧ fX6_hoursGo σ1 (nI n) = some (σ3, v) ∧ MU M M3 ∧ (∃ π kp, RS a M3 1 π kp) ∧ TH σ σ3 ∧ PR (fun _ => 600 * n) M3 1 σ3 ∧ (∀ o, 134 ≤ o → M3.2.1 o = M2.2.1 o) ∧ σ3.2.2.2 64 = σ1.2.2.2 64 := by
  obtain ⟨π, kp, R⟩ := R
  have h60 : ¬ σ1.1 60 = 0 := by rw [T.1]; decide
  obtain ⟨M3, σ3, v, e1, e2, -, ⟨π', kp', R', -⟩, P, F, TT, Q⟩ := hours_ok (K := K) (X.to hM.same T.up.up) (by rw [hM.same.2]; exact H.up T.up.up) (show 1 < 22 by omega) hn hb S R (fun h => absurd h h60) hz
  refine ⟨M3, σ3, v, e1, e2, hM.tr (MU.of F), ⟨π', kp', R'⟩, T.tf TT (Q h60), fun p hp => ?_, fun o h => F.2.1 o (Or.inr (by show 75 + 59 ≤ o; omega)) (by omega), TT.2.2.2 64 (by omega) (by omega)⟩
  obtain ⟨w1, w2, w3, w4⟩ := P trivial p hp
  rw [Nat.zero_add] at w3 w4
  exact ⟨w1, w2, w3, w4⟩
theorem ps13 : PS13 K a (IV K a) := by
  intro h σ n x y hn I
  have I' := I.next
  obtain ⟨M, nk, nf, np, pt, vl, vf, vm, rfl, X, H, N, E⟩ := I
  have hN := N
  obtain ⟨hr, π, kp, N1, N2, N3, N4⟩ := N
  have b := X.bk
  have e0 := SameH.refl M
  have i1 : 1 < 22 := by omega
  rcases X.isPers K x with ⟨p, hp', rfl, c1, t1⟩ | ⟨c1, t1⟩
  rotate_left
  · exact ⟨_, _, -1000000000000000, by simp only [fX0_pleased, x_rcv, bsm, c1 M e0, if_true, fX0_pleased_42], by simp only [fX6_pleased, t1, bsm, if_true, fX6_pleased_19], I'⟩
  rcases ahead_ok (K := K) X N2 (lo := 0) (hi := 72) (by omega) (by omega) y with ⟨q, q1, q2, q3, rfl, c2, t2⟩ | ⟨-, c2, t2⟩
  rotate_left
  · have c2' : fX0_isAhead K (hp a M) a y 0 72 = some 0 := c2 M (MU.refl M)
    have t2' : fX6_isAhead σ y 0 72 = some 0 := t2
    exact ⟨_, _, -1000000000000000, by simp only [fX0_pleased, x_rcv, bsm, c1 M e0, if_neg n01, c2', if_true, fX0_pleased_42], by simp only [fX6_pleased, t1, bsm, if_neg n01, t2', if_true, fX6_pleased_19], I'⟩
  have c2' : fX0_isAhead K (hp a M) a (nI q) 0 72 = some 1 := c2 M (MU.refl M)
  have t2' : fX6_isAhead σ (nI q) 0 72 = some 1 := t2
  obtain ⟨σ1, s1, s2, s3⟩ := th_aside σ
  obtain ⟨M2, d1, d2, d3, d4, d5, d6⟩ := cpy_ok (K := K) N2 b.2.2 N3 (MU.refl M) (E.1 1 i1)
  obtain ⟨M3, σ3, v, f1, f2, f3, f4, f5, f6, f7, f8⟩ := try_ok (K := K) (hr := hr) X H (show q ≤ 100 by omega) (by omega) d2 s2 (by rw [s3]; exact d3) d4 d5
  obtain ⟨σ4, g1, g2, g3, g4, g5, g6⟩ := f5.back E.2.2.2.2.2.2.2.2.2.1
  refine ⟨hp a M3, σ4, M3.2.1 (sbo 1 + 57) p, ?_, ?_, IV.think X H hN E.next f3 f4 g2 g3 g4⟩
  · simp only [fX0_pleased, x_rcv, bsm, c1 M e0, if_neg n01, c2', x_g10, x_g9, s_rcv i1, d1, f1, s_g7 i1, c_pls i1 (show p < 5 by omega)]
  · simp only [fX6_pleased, t1, bsm, if_neg n01, t2', s1, f2, g1, tg62 (i := p) (show p < 5 by omega), g5, (f6 p (by omega)).1]
theorem ps14 : PS14 K a (IV K a) := by
  intro h σ n x y hn I
  have I' := I.next
  obtain ⟨M, nk, nf, np, pt, vl, vf, vm, rfl, X, H, N, E⟩ := I
  have hN := N
  obtain ⟨hr, π, kp, N1, N2, N3, N4⟩ := N
  have b := X.bk
  have e0 := SameH.refl M
  have i1 : 1 < 22 := by omega
  rcases X.isPers K x with ⟨p, hp', rfl, c1, t1⟩ | ⟨c1, t1⟩
  rotate_left
  · exact ⟨_, _, -1, by simp only [fX0_refused, x_rcv, bsm, c1 M e0, if_true], by simp only [fX6_refused, t1, bsm, if_true], I'⟩
  rcases ahead_ok (K := K) X N2 (lo := 0) (hi := 72) (by omega) (by omega) y with ⟨q, q1, q2, q3, rfl, c2, t2⟩ | ⟨-, c2, t2⟩
  rotate_left
  · have c2' : fX0_isAhead K (hp a M) a y 0 72 = some 0 := c2 M (MU.refl M)
    have t2' : fX6_isAhead σ y 0 72 = some 0 := t2
    exact ⟨_, _, -1, by simp only [fX0_refused, x_rcv, bsm, c1 M e0, if_neg n01, c2', if_true], by simp only [fX6_refused, t1, bsm, if_neg n01, t2', if_true], I'⟩
  have c2' : fX0_isAhead K (hp a M) a (nI q) 0 72 = some 1 := c2 M (MU.refl M)
  have t2' : fX6_isAhead σ (nI q) 0 72 = some 1 := t2
  obtain ⟨σ1, s1, s2, s3⟩ := th_aside σ
  obtain ⟨M2, d1, d2, d3, d4, d5, d6⟩ := cpy_ok (K := K) N2 b.2.2 N3 (MU.refl M) (E.1 1 i1)
  obtain ⟨M3, σ3, v, f1, f2, f3, f4, f5, f6, f7, f8⟩ := try_ok (K := K) (hr := hr) X H (show q ≤ 100 by omega) (by omega) d2 s2 (by rw [s3]; exact d3) d4 d5
  obtain ⟨σ4, g1, g2, g3, g4, g5, g6⟩ := f5.back E.2.2.2.2.2.2.2.2.2.1
  refine ⟨hp a M3, σ4, M3.1 (sbo 1 + 58) p, ?_, ?_, IV.think X H hN E.next f3 f4 g2 g3 g4⟩
  · simp only [fX0_refused, x_rcv, bsm, c1 M e0, if_neg n01, c2', x_g10, x_g9, s_rcv i1, d1, f1, s_g8 i1, c_refd i1 (show p < 5 by omega)]
  · simp only [fX6_refused, t1, bsm, if_neg n01, t2', s1, f2, g1, tg63 (i := p) (show p < 5 by omega), g6, (f6 p (by omega)).2.1]
/-- just these press from now on: n hours -/
theorem tryP_ok (X : HX a M σ nk nf np pt vl vf vm) (H : HTs K a M.2.2.2.1 σ vl vf vm) (hn : n ≤ 100) (hb : hr ≤ 24000) (hm : m < 2 ^ np) (S : SR M 0 (σ.2.2.1 54) np pt hr) (R0 : RS a M 0 π kp) (hM : MU M M1) (R1 : ∃ π kp, RS a M1 1 π kp) (T : TH σ σ1) (e54 : σ1.2.2.1 54 = σ.2.2.1 54) : ∃ M2 M3 σ2 σ3 v, fX5_copy K (hp a M1) (a + sbo 1) (some (a + sbo 0)) = some (hp a M2, some (a + sbo 1)) ∧ fX6_pressAll σ1 (nI m) = some σ2 ∧ fX5_hours K (hp a (mI M2 (sbo 1) 1 (nI m))) (a + sbo 1) (nI n) = some (hp a M3, some (a + sbo 1)) ∧ fX6_hoursGo σ2 (nI n) = some (σ3, v) ∧ MU M M3 ∧ (∃ π kp, RS a M3 1 π kp) ∧ TH σ σ3 ∧ PR (fun _ => 600 * n) M3 1 σ3 ∧ (∀ o, 134 ≤ o → M3.2.1 o = M1.2.1 o) ∧ σ3.2.2.2 64 = σ1.2.2.2 64 := by
  have b := X.bk
  obtain ⟨w1, w2⟩ := pw5 np (by omega)
  obtain ⟨M2, d1, d2, d3, ⟨π2, kp2, d4⟩, d5, d6⟩ := cpy_ok (K := K) S b.2.2 R0 hM R1
  obtain ⟨σ2, p1, p2, p3, p4, p5, p6, p7⟩ := pressAll_ok (X.to hM.same T.up.up) (show m < 32 by omega)
  have T2 : TH σ σ2 := T.tf ⟨fun k _ _ _ _ _ => by rw [p2], p3, fun k q _ _ => p4 k q, fun k _ _ => by rw [p5]⟩ (fun j hj => p7 j (fun p hp => by omega))
  have M2' : MU M (mI M2 (sbo 1) 1 (nI m)) := d2.tr (MU.of ((MF.refl 1 M2).mI (by omega) (by omega)))
  have S2 : SR (mI M2 (sbo 1) 1 (nI m)) 1 (σ2.2.2.1 54) np pt hr := d3.setP hm p6 (fun j hj h => by rw [p7 j h, e54]) b.2.2
  obtain ⟨M3, σ3, v, f1, f2, f3, f4, f5, f6, f7, f8⟩ := try_ok (K := K) X H hn hb M2' T2 S2 ⟨π2, kp2, d4.to (by rw [mI_n (by omega)]) rfl⟩ (fun k hk => ⟨(d5 k hk).1, by rw [mI_n (by omega)]; exact (d5 k hk).2⟩)
  exact ⟨M2, M3, σ2, σ3, v, d1, p1, f1, f2, f3, f4, f5, f6, fun o h => by rw [f7 o h]; exact d6 o h, by rw [f8, p5]⟩
theorem prs_o1 : ∀ m, m < 32 → ∀ p, p < 5 → nI m ||| nI (2 ^ p) = nI (m ||| 2 ^ p) := by decide +kernel
theorem prs_o2 : ∀ m, m < 32 → ∀ p, p < 5 → nI m &&& (nI (2 ^ p) ^^^ (-1 : Int32)) = nI (m - m / 2 ^ p % 2 * 2 ^ p) := by decide +kernel
theorem prs_or (n : Nat) (hn : n < 6) (m : Nat) (hm : m < 32) (hm2 : m < 2 ^ n) (p : Nat) (hp : p < n) : nI m ||| nI (2 ^ p) = nI (m ||| 2 ^ p) ∧ (m ||| 2 ^ p) < 2 ^ n ∧ nI m &&& (nI (2 ^ p) ^^^ (-1 : Int32)) = nI (m - m / 2 ^ p % 2 * 2 ^ p) ∧ m - m / 2 ^ p % 2 * 2 ^ p < 2 ^ n :=
  ⟨prs_o1 m hm p (by omega), Nat.or_lt_two_pow hm2 (Nat.pow_lt_pow_right (by omega) hp), prs_o2 m hm p (by omega), Nat.lt_of_le_of_lt (Nat.sub_le _ _) hm2⟩
/-- how one is pleased if just these press -/
theorem byP_ok (X : HX a M σ nk nf np pt vl vf vm) (H : HTs K a M.2.2.2.1 σ vl vf vm) (hn : n ≤ 100) (hb : hr ≤ 24000) (hp' : p < np) (hm : m < 2 ^ np) (S : SR M 0 (σ.2.2.1 54) np pt hr) (R0 : RS a M 0 π kp) (hM : MU M M1) (R1 : ∃ π kp, RS a M1 1 π kp) (T : TH σ σ1) (e54 : σ1.2.2.1 54 = σ.2.2.1 54) : ∃ M3 σ4 z, fX0_pleasedBy K (hp a M1) a (nI m) (nI p) (nI n) = some (hp a M3, z) ∧ fX6_pleasureBy σ1 (nI m) (nI p) (nI n) = some (σ4, z) ∧ MU M M3 ∧ (∃ π kp, RS a M3 1 π kp) ∧ TH σ σ4 ∧ σ4.2.2.1 54 = σ.2.2.1 54 := by
  have b := X.bk
  have i1 : 1 < 22 := by omega
  obtain ⟨M2, M3, σ2, σ3, v, c1, c2, c3, c4, c5, c6, c7, c8, -⟩ := tryP_ok (K := K) X H hn hb hm S R0 hM R1 T e54
  obtain ⟨σ4, g1, g2, g3, g4, g5⟩ := c7.anew
  refine ⟨M3, σ4, M3.2.1 (sbo 1 + 57) p, ?_, ?_, c5, c6, g2, g3⟩
  · simp only [fX0_pleasedBy, x_g10, x_g9, bsm, s_rcv i1, c1, s_p1 i1, c3, s_g7 i1, c_pls i1 (show p < 5 by omega)]
  · simp only [fX6_pleasureBy, c2, bsm, c4, g1, tg62 (i := p) (show p < 5 by omega), g4, (c8 p (by omega)).1]
theorem ps15 : PS15 K a (IV K a) := by
  intro h σ n x y hn I
  have I' := I.next
  obtain ⟨M, nk, nf, np, pt, vl, vf, vm, rfl, X, H, N, E⟩ := I
  have hN := N
  obtain ⟨hr, π, kp, N1, N2, N3, N4⟩ := N
  have b := X.bk
  have e0 := SameH.refl M
  have i0 : 0 < 22 := by omega
  rcases X.isPers K x with ⟨p, hp', rfl, c1, t1⟩ | ⟨c1, t1⟩
  rotate_left
  · exact ⟨_, _, -1000000000000000, by simp only [fX0_pressing, x_rcv, bsm, c1 M e0, if_true, fX0_pressing_19], by simp only [fX6_pressing, t1, bsm, if_true, fX6_pressing_19], I'⟩
  rcases ahead_ok (K := K) X N2 (lo := 0) (hi := 72) (by omega) (by omega) y with ⟨q, q1, q2, q3, rfl, c2, t2⟩ | ⟨-, c2, t2⟩
  rotate_left
  · have c2' : fX0_isAhead K (hp a M) a y 0 72 = some 0 := c2 M (MU.refl M)
    have t2' : fX6_isAhead σ y 0 72 = some 0 := t2
    exact ⟨_, _, -1000000000000000, by simp only [fX0_pressing, x_rcv, bsm, c1 M e0, if_neg n01, c2', if_true, fX0_pressing_19], by simp only [fX6_pressing, t1, bsm, if_neg n01, t2', if_true, fX6_pressing_19], I'⟩
  have c2' : fX0_isAhead K (hp a M) a (nI q) 0 72 = some 1 := c2 M (MU.refl M)
  have t2' : fX6_isAhead σ (nI q) 0 72 = some 1 := t2
  obtain ⟨σ1, s1, s2, s3⟩ := th_aside σ
  obtain ⟨m, m1, m0, m2, m3, m4⟩ := SR.press X N2
  obtain ⟨o1, o2, o3, o4⟩ := prs_or np (by omega) m m1 m0 p hp'
  have hs := shl1 p (by omega)
  obtain ⟨M3, σ3, z, f1, f2, f3, f4, f5, f6⟩ := byP_ok (K := K) X H (show q ≤ 100 by omega) (by omega) hp' o2 N2 N3 (MU.refl M) (E.1 1 (by omega)) s2 s3
  obtain ⟨M4, σ4, z', g1, g2, g3, g4, g5, g6⟩ := byP_ok (K := K) X H (show q ≤ 100 by omega) (by omega) hp' o4 N2 N3 f3 f4 f5 f6
  obtain ⟨σ5, k1, k2, k3, k4, k5, k6⟩ := g5.back E.2.2.2.2.2.2.2.2.2.1
  refine ⟨hp a M4, σ5, z - z', ?_, ?_, IV.think X H hN E.next g3 g4 k2 k3 k4⟩
  · have mm : M3.1 (sbo 0) 1 = nI m := by rw [f3.1 _ (by show 16 < 75 ∨ _; omega)]; exact m2
    simp only [fX0_pressing, x_rcv, bsm, c1 M e0, if_neg n01, c2', x_g9, s_g1 i0, m2, hs, o1, f1, mm, o3, g1]
  · simp only [fX6_pressing, t1, bsm, if_neg n01, t2', m4, s1, hs, o1, f2, o3, g2, k1]
theorem ps17 : PS17 K a (IV K a) := by
  intro h σ n x y hn I
  have I' := I.next
  obtain ⟨M, nk, nf, np, pt, vl, vf, vm, rfl, X, H, N, E⟩ := I
  have hN := N
  obtain ⟨hr, π, kp, N1, N2, N3, N4⟩ := N
  have b := X.bk
  have e0 := SameH.refl M
  have i1 : 1 < 22 := by omega
  rcases X.isPers K x with ⟨p, hp', rfl, c1, t1⟩ | ⟨c1, t1⟩
  rotate_left
  · exact ⟨_, _, -1, by simp only [fX0_gone, x_rcv, bsm, c1 M e0, if_true], by simp only [fX6_gone, t1, bsm, if_true], I'⟩
  rcases X.isKind K y with ⟨kd, hkd, rfl, c2, t2⟩ | ⟨c2, t2⟩
  rotate_left
  · exact ⟨_, _, -1, by simp only [fX0_gone, x_rcv, bsm, c1 M e0, if_neg n01, c2 M e0, if_true], by simp only [fX6_gone, t1, bsm, if_neg n01, t2, if_true], I'⟩
  obtain ⟨σ1, s1, s2, s3⟩ := th_aside σ
  obtain ⟨M2, d1, d2, d3, ⟨π2, kp2, d4⟩, d5, d6⟩ := cpy_ok (K := K) N2 b.2.2 N3 (MU.refl M) (E.1 1 i1)
  have h60 : ¬ σ1.1 60 = 0 := by rw [s2.1]; decide
  have X2 := X.to d2.same s2.up.up
  have H2 : HTs K a M2.2.2.2.1 σ1 vl vf vm := by rw [d2.same.2]; exact H.up s2.up.up
  have J0 : HJ a M2 σ1 1 np pt hr False 0 0 M2 σ1 := HJ.zero (by rw [s3]; exact d3) d4 (fun h => absurd h h60) (fun h => h.elim)
  -- both ends
  have fin : ∀ k M3 σ3, HJ a M2 σ1 1 np pt hr False 0 k M3 σ3 → MU M M3 ∧ (∃ π kp, RS a M3 1 π kp) ∧ TH σ σ3 := fun k M3 σ3 J => by
    obtain ⟨-, ⟨π', kp', R', -⟩, -, F, T, Q⟩ := J
    exact ⟨d2.tr (MU.of F), ⟨π', kp', R'⟩, s2.tf T (Q h60)⟩
  have key : ∃ M3 σ4 v, fX0_gone_32 K a FU (hp a M2) (nI p) (nI kd) 0 = some (hp a M3, v) ∧ fX6_gone_24 FU σ1 (nI p) (nI kd) 0 = some (σ4, v) ∧ IV K a (hp a M3) σ4 (n + 1) := by
    have tt : ∀ k M3 σ3, HJ a M2 σ1 1 np pt hr False 0 k M3 σ3 → ∃ w t, w ≤ np ∧ t ≤ 999 ∧ fX5_profile K (hp a M3) (a + sbo 1) (nI p) = some (nI w) ∧ fX6_profileOf σ3 (nI p) = some (nI w) ∧ M3.1 (sbo 1 + (2 + w)) kd = nI t ∧ σ3.2.2.1 54 (2 + 14 * w + kd) = nI t := fun k M3 σ3 J => by
      obtain ⟨S, -⟩ := J
      obtain ⟨m, -, -, -, w, -, w2, w3, w4⟩ := S.prof (a := a) K i1 b.2.2 hp'
      obtain ⟨e1, t, e2, e3⟩ := S.2.2.1 w kd (by omega) (by omega)
      exact ⟨w, t, w2, e2, w3, w4, by rw [e1, e3], e3⟩
    -- the twin's end
    have endT : ∀ k M3 σ3 w t, HJ a M2 σ1 1 np pt hr False 0 k M3 σ3 → fX6_profileOf σ3 (nI p) = some (nI w) → w ≤ np → t ≤ 999 → σ3.2.2.1 54 (2 + 14 * w + kd) = nI t → ∀ M4, MU M M4 → (∃ π kp, RS a M4 1 π kp) → ∃ σ4, fX6_gone_69 σ3 (nI p) (nI kd) (nI k) = some (σ4, if t = 0 then nI k else -1) ∧ IV K a (hp a M4) σ4 (n + 1) := fun k M3 σ3 w t J pw hw ht et M4 hM4 hR4 => by
      obtain ⟨-, -, T3⟩ := fin k M3 σ3 J
      obtain ⟨σ4, g1, g2, g3, g4, -⟩ := T3.back E.2.2.2.2.2.2.2.2.2.1
      refine ⟨σ4, ?_, IV.think X H hN E.next hM4 hR4 g2 g3 g4⟩
      have z1 : aI σ3 54 ((2 : Int32) + (14 : Int32) * nI w + nI kd) = some (nI t) := by
        rw [ki2, ki14, nI_mul, nI_add, nI_add, tg54 (by omega), et]
      by_cases h0 : t = 0
      · have h0' : nI t = 0 := by rw [h0]; rfl
        simp only [fX6_gone_69, pw, bsm, fX6_tasteAt, z1, if_pos h0', fX6_gone_92, g1, if_neg n01, if_pos h0]
      · have h0' : ¬ nI t = 0 := by rw [nI_eq0 (by omega)]; exact h0
        simp only [fX6_gone_69, pw, bsm, fX6_tasteAt, z1, if_neg h0', fX6_gone_92, g1, if_true, if_neg h0]
    have main : ∀ d k M3 σ3 f1 f2, 73 - k < d → d ≤ f1 → d ≤ f2 → k ≤ 72 → hr + k ≤ 23999 → HJ a M2 σ1 1 np pt hr False 0 k M3 σ3 → ∃ M4 σ4 v, fX0_gone_32 K a f1 (hp a M3) (nI p) (nI kd) (nI k) = some (hp a M4, v) ∧ fX6_gone_24 f2 σ3 (nI p) (nI kd) (nI k) = some (σ4, v) ∧ IV K a (hp a M4) σ4 (n + 1) := by
      intro d
      induction d with
      | zero => intro k M3 σ3 f1 f2 h1; omega
      | succ d ih =>
        intro k M3 σ3 f1 f2 h1 h2 h3 h4 h5 J
        obtain ⟨g1, rfl⟩ : ∃ n, f1 = n + 1 := ⟨f1 - 1, by omega⟩
        obtain ⟨g2, rfl⟩ : ∃ n, f2 = n + 1 := ⟨f2 - 1, by omega⟩
        obtain ⟨w, t, w1, w2, w3, w4, w5, w6⟩ := tt k M3 σ3 J
        obtain ⟨q1, q2, q3⟩ := fin k M3 σ3 J
        have z1 : aI σ3 54 ((2 : Int32) + (14 : Int32) * nI w + nI kd) = some (nI t) := by
          rw [ki2, ki14, nI_mul, nI_add, nI_add, tg54 (by omega), w6]
        have ah : fX0_isAhead K (hp a M3) a (nI k) 0 72 = some 1 := by
          rcases ahead_ok (K := K) X N2 (lo := 0) (hi := 72) (by omega) (by omega) (nI k) with ⟨-, -, -, -, -, c, -⟩ | ⟨c, -⟩
          · exact c M3 q1
          · have := c k (by omega) h4 rfl
            omega
        by_cases h0 : t = 0
        · have h0' : nI t = 0 := by rw [h0]; rfl
          have h0l : nI t ≤ 0 := by rw [h0]; decide
          obtain ⟨σ4, u1, u2⟩ := endT k M3 σ3 w t J w4 w1 w2 w6 M3 q1 q2
          refine ⟨M3, σ4, nI k, ?_, ?_, u2⟩
          · simp only [fX0_gone_32, x_rcv, bsm, ah, if_neg n01, x_g10, s_g3 i1, s_rcv i1, w3, s_tasteO i1 (show w < 6 by omega), c_taste i1 (show w < 6 by omega) (show kd < 6 by omega), w5, if_pos h0']
          · simp only [fX6_gone_24, w4, bsm, fX6_tasteAt, z1, if_pos h0l, u1, if_pos h0]
        · have h0' : ¬ nI t = 0 := by rw [nI_eq0 (by omega)]; exact h0
          have h0l : ¬ nI t ≤ 0 := by rw [nI_le0 (by omega)]; exact h0
          -- the component goes on for an hour
          obtain ⟨M4, σ4, c, -, u1, u2, u3, -⟩ := J.step (K := K) X2 H2 i1 (by omega) (by omega)
          have cstep : fX0_gone_32 K a (g1 + 1) (hp a M3) (nI p) (nI kd) (nI k) = fX0_gone_32 K a g1 (hp a M4) (nI p) (nI kd) (nI (k + 1)) := by
            simp only [fX0_gone_32, x_rcv, bsm, ah, if_neg n01, x_g10, s_g3 i1, s_rcv i1, w3, s_tasteO i1 (show w < 6 by omega), c_taste i1 (show w < 6 by omega) (show kd < 6 by omega), w5, if_neg h0', u1, nI_1]
          obtain ⟨q4, q5, q6⟩ := fin (k + 1) M4 σ4 u3
          have S3 := J.1
          obtain ⟨⟨a1, a2, a3, a4⟩, -, -⟩ := id S3
          have cend : ¬ (k + 1 ≤ 72 ∧ hr + (k + 1) ≤ 23999) → fX0_gone_32 K a g1 (hp a M4) (nI p) (nI kd) (nI (k + 1)) = some (hp a M4, -1) := fun hh => by
            obtain ⟨g3, rfl⟩ : ∃ n, g1 = n + 1 := ⟨g1 - 1, by omega⟩
            have ah2 : fX0_isAhead K (hp a M4) a (nI (k + 1)) 0 72 = some 0 := by
              rcases ahead_ok (K := K) X N2 (lo := 0) (hi := 72) (by omega) (by omega) (nI (k + 1)) with ⟨q, r1, r2, r3, r4, -, -⟩ | ⟨-, c, -⟩
              · exfalso
                rw [nI_eqE (by omega) (by omega)] at r4
                omega
              · exact c M4 q4
            simp only [fX0_gone_32, x_rcv, bsm, ah2, if_true]
          have tah : fX6_isAhead σ3 1 1 1 = some (if hr + k + 1 ≤ 23999 then 1 else 0) := by
            have k1 : (1 : Int32).toInt64 = (1 : Int32).toInt64 := rfl
            have hh : ¬ ((1 : Int32) < 1 ∨ (1 : Int32) < 1) := by decide
            have q0 : aI σ3 54 (0 : Int32) = some (nI ((hr + k) / 24)) := by
              have z := tg54 (σ := σ3) (i := 0) (by omega)
              rw [a2] at z
              exact z
            have q1' : aI σ3 54 (1 : Int32) = some (nI ((hr + k) % 24)) := by
              have z := tg54 (σ := σ3) (i := 1) (by omega)
              rw [a3] at z
              exact z
            have kt : ((23999 : Int32) < (24 : Int32) * nI ((hr + k) / 24) + nI ((hr + k) % 24) + 1) = (23999 < hr + k + 1) := by
              rw [ki24, nI_mul, nI_add, nI_1, show 24 * ((hr + k) / 24) + (hr + k) % 24 + 1 = hr + k + 1 by omega]
              exact nI_ltE (a := 23999) (by omega) (by omega)
            simp only [fX6_isAhead, t_is, if_neg hh, bsm, if_neg n01, q0, q1', kt]
            by_cases hq : 23999 < hr + k + 1
            · rw [if_pos hq, if_neg (by omega)]
            · rw [if_neg hq, if_pos (by omega)]
          by_cases h72 : k + 1 ≤ 72
          · have n72 : ¬ (72 : Int32) ≤ nI k := nI_ge (b := 72) (by omega) (by omega)
            by_cases hh : hr + (k + 1) ≤ 23999
            · obtain ⟨M5, σ5, v, v1, v2, v3⟩ := ih (k + 1) M4 σ4 g1 g2 (by omega) (by omega) (by omega) h72 hh u3
              refine ⟨M5, σ5, v, by rw [cstep, v1], ?_, v3⟩
              rw [← v2]
              have tah' : fX6_isAhead σ3 1 1 1 = some 1 := by rw [tah, if_pos (by omega)]
              simp only [fX6_gone_24, w4, bsm, fX6_tasteAt, z1, if_neg h0l, if_neg n72, tah', if_neg n01, u2, nI_1]
            · obtain ⟨σ5, v1, v2⟩ := endT k M3 σ3 w t J w4 w1 w2 w6 M4 q4 q5
              refine ⟨M4, σ5, -1, by rw [cstep, cend (by omega)], ?_, v2⟩
              have tah' : fX6_isAhead σ3 1 1 1 = some 0 := by rw [tah, if_neg (by omega)]
              simp only [fX6_gone_24, w4, bsm, fX6_tasteAt, z1, if_neg h0l, if_neg n72, tah', if_true, v1, if_neg h0]
          · have p72 : (72 : Int32) ≤ nI k := nI_le (a := 72) (by omega) (by omega)
            obtain ⟨σ5, v1, v2⟩ := endT k M3 σ3 w t J w4 w1 w2 w6 M4 q4 q5
            refine ⟨M4, σ5, -1, by rw [cstep, cend (by omega)], ?_, v2⟩
            simp only [fX6_gone_24, w4, bsm, fX6_tasteAt, z1, if_neg h0l, if_pos p72, v1, if_neg h0]
    exact main 100 0 M2 σ1 FU FU (by omega) (by show 100 ≤ 100000; omega) (by show 100 ≤ 100000; omega) (by omega) (by omega) J0
  obtain ⟨M3, σ4, v, k1, k2, k3⟩ := key
  exact ⟨hp a M3, σ4, v, by simp only [fX0_gone, x_rcv, bsm, c1 M e0, if_neg n01, c2 M e0, x_g10, x_g9, s_rcv i1, d1, k1], by simp only [fX6_gone, t1, bsm, if_neg n01, t2, s1, k2], k3⟩
end PTY

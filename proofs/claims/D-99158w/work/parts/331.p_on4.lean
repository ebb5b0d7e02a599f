/-! PLAIN LAW, an image is taken on: the call -/
set_option maxRecDepth 100000
section PO4
variable {K : KE} {a i n k f p m nk nf np hr tp r j w c q : Nat} {M M' M0 M1 M2 M3 M4 : CM} {σ σ' σ1 σ2 : MS} {pt : Nat → Nat} {vl vf vm : Option Nat} {B : Nat → Nat} {π : Nat → Nat} {kp : Nat}
/-- State 1 is of no account -/
theorem IV.st1 (X : HX a M σ nk nf np pt vl vf vm) (H : HTs K a M.2.2.2.1 σ vl vf vm) (N : KS a M 0 (σ.2.2.1 54) np pt) (E : RE K a M σ n nf np pt) (e1 : ∀ o, (o < 75 ∨ 134 ≤ o) → M2.1 o = M.1 o) (e2 : M2.2.2 = M.2.2) (e3 : M2.2.1 0 = M.2.1 0) (R : ∃ π kp, RS a M2 1 π kp) : IV K a (hp a M2) σ n := by
  have b := X.bk
  obtain ⟨hr, π, kp, N1, N2, N3, N4⟩ := id N
  refine ⟨M2, nk, nf, np, pt, vl, vf, vm, rfl, X.to ⟨by rw [e2], by rw [e2]⟩ (UpE.refl σ).up, by rw [e2]; exact H, N.nr b.2.2 (fun o h1 h2 => e1 o (by omega)) (by rw [e2]) rfl, E.fr b.2.2 ⟨fun o ho => e1 o (by omega), e3, fun o ho => by rw [e2], by rw [e2]⟩ (TE.refl σ) ⟨π, kp, N3.to (by rw [e1 _ (by show 16 < 75 ∨ _; omega)]) (by rw [e2])⟩ R⟩
theorem on_no {h : HS} (I : IV K a h σ n) : ∃ h' σ', fX0_on_179 K a h 0 = some (h', 0) ∧ ((aI σ 9 (5 : Int32)).bind fun v7 => (tI σ 9 (5 : Int32) (v7 + (1 : Int32))).bind fun σ8 => some (σ8, (0 : Int32))) = some (σ', 0) ∧ IV K a h' σ' n := by
  obtain ⟨h', σ', c1, c2, c3, c4, c5⟩ := I.no (k := 5) (by omega)
  have c1' : fX0_refuses K h a (5 : Int32) = some (h', -1) := c1
  have c3' : aI σ 9 (5 : Int32) = some (σ.2.2.1 9 5) := c3
  have c4' : tI σ 9 (5 : Int32) (σ.2.2.1 9 5 + 1) = some σ' := c4
  refine ⟨h', σ', ?_, by simp only [c3', c4', bsm], c5⟩
  simp only [fX0_on_179, if_true, c2, bsm, c1', if_pos (show (-1 : Int32) < 0 by decide)]
/-- the image is good: it is taken on -/
theorem on_yes (X : HX a M0 σ nk nf np pt vl vf vm) (H : HTs K a M0.2.2.2.1 σ vl vf vm) (h9 : pt 9 = 0) (S : SR M0 0 (σ.2.2.1 54) np pt hr) (E : RE K a M0 σ n nf np pt) (ZA : BA M0 B) (ZT' : BT σ B)
    (hq : pf nk nf (1 + np) = q) (hq2 : q ≤ 130) (h0 : tw B 0 ≤ 999) (h2 : B 2 < 24) (V : ∀ w, w ≤ np → VP B pt nk nf w) (W : ∀ p, p < np → VQ B q p)
    (hM : MF 1 M0 M1) (e22 : M1.2.2 = M0.2.2) (e212 : M1.2.1 12 = M0.2.1 12) (c3 : ∀ w k, w < 6 → k < 6 → M1.1 (sbo 1 + (2 + w)) k = if w ≤ np ∧ k < nk then nI (tw B (pf nk nf w + 2 * k)) else M0.1 (sbo 0 + (2 + w)) k)
    (c4 : ∀ w k, w < 6 → k < 8 → M1.1 (sbo 1 + (9 + w)) k = if w ≤ np ∧ k < nf then nI (B (pf nk nf w + 2 * nk + k)) else M0.1 (sbo 0 + (9 + w)) k)
    (c5 : ∃ m, m < 2 ^ np ∧ M1.1 75 1 = nI m ∧ ∀ r, r < np → m / 2 ^ r % 2 = B (q + 3 * r)) (c6 : ∀ k, k < 5 → M1.1 90 k = if k < np then nI (tw B (q + 3 * k + 1)) else M0.1 (sbo 0 + 15) k) (R1 : ∃ π kp, RS a M1 1 π kp) :
    ∃ h' σ', fX0_on_179 K a (hp a M1) 1 = some (h', 1) ∧ ((fX6_twoAt σ (0 : Int32)).bind fun x3 => (tI σ 54 (0 : Int32) x3).bind fun σ4 => (aI σ4 0 (2 : Int32)).bind fun v5 => (tI σ4 54 (1 : Int32) v5).bind fun σ6 => fX6_on_55 FU σ6 (0 : Int32)) = some (σ', 1) ∧ IV K a h' σ' n := by
  have b := X.bk
  have i0 : 0 < 22 := by omega
  have i1 : 1 < 22 := by omega
  have s75 : sbo 1 = 75 := rfl
  have s16 : sbo 0 = 16 := rfl
  -- the twin
  have T1 : T5 σ (sA (sA σ 54 0 (nI (tw B 0))) 54 1 (nI (B 2))) := ((T5.refl σ).set).set
  obtain ⟨s2, t1, T2, t2, t3, t4⟩ := onW (X.to (SameH.refl M0) T1.up.up) (ZT'.to (T1.2.2.2 0 (by omega)))
  have T12 := T1.tr T2
  obtain ⟨s3, u1, T3, u2, u3, u4⟩ := onW_p (X.to (SameH.refl M0) T12.up.up) (ZT'.to (T12.2.2.2 0 (by omega))) hq2
  have T := T12.tr T3
  have g0 : s3.2.2.1 54 0 = nI (tw B 0) := by rw [u3 0 (by omega), t4 0 (by omega), sA_m (by omega), sA_s]
  have g1 : s3.2.2.1 54 1 = nI (B 2) := by rw [u3 1 (by omega), t4 1 (by omega), sA_s]
  have gt : ∀ w k, w < 6 → k < 6 → s3.2.2.1 54 (2 + 14 * w + k) = if w ≤ np ∧ k < nk then nI (tw B (pf nk nf w + 2 * k)) else σ.2.2.1 54 (2 + 14 * w + k) := fun w k hw hk => by
    rw [u3 _ (by omega), t2 w k hw hk, sA_m (by omega), sA_m (by omega)]
  have gs : ∀ w k, w < 6 → k < 8 → s3.2.2.1 54 (2 + 14 * w + 6 + k) = if w ≤ np ∧ k < nf then nI (B (pf nk nf w + 2 * nk + k)) else σ.2.2.1 54 (2 + 14 * w + 6 + k) := fun w k hw hk => by
    rw [u3 _ (by omega), t3 w k hw hk, sA_m (by omega), sA_m (by omega)]
  have gp : ∀ p, p < 5 → (p < np → s3.2.2.1 54 (86 + 2 * p) = nI (B (q + 3 * p))) ∧ s3.2.2.1 54 (86 + 2 * p + 1) = if p < np then nI (tw B (q + 3 * p + 1)) else σ.2.2.1 54 (86 + 2 * p + 1) := fun p hp' => by
    rw [(u2 p hp').1, (u2 p hp').2]
    refine ⟨fun z => by rw [if_pos z], ?_⟩
    rw [t4 _ (by omega), sA_m (by omega), sA_m (by omega)]
  -- the component
  obtain ⟨π1, kp1, R1⟩ := R1
  have s80 := S
  obtain ⟨-, -, st, ss, sd⟩ := S
  have hA : BA M1 B := ZA.to (hM.1 8 (by omega))
  have eh : (24 : Int32) * nI (tw B 0) + nI (B 2) = nI (24 * tw B 0 + B 2) := by rw [ki24, nI_mul, nI_add]
  have M2e : ∃ M2, M2 = mI (mI M1 (sbo 1) 0 (nI (24 * tw B 0 + B 2))) (sbo 1) 2 0 := ⟨_, rfl⟩
  obtain ⟨M2, hM2⟩ := M2e
  have f2 : ∀ o, o ≠ 75 → M2.1 o = M1.1 o := fun o ho => by rw [hM2, mI_o (by omega), mI_o (by omega)]
  have f2' : ∀ k, k ≠ 0 → k ≠ 2 → M2.1 75 k = M1.1 75 k := fun k h1 h2 => by rw [hM2, mI_n (by omega), mI_n (by omega)]
  have R2 : RS a M2 1 π1 0 := ⟨by omega, by rw [hM2]; exact mI_s, by rw [hM2]; exact R1.2.2.1, R1.2.2.2⟩
  obtain ⟨π0, kp0, R0⟩ := E.1 0 i0
  have R0' : RS a M2 0 π0 kp0 := R0.to (by rw [f2 _ (by omega), hM.1 _ (by omega)]) (by rw [hM2]; show M1.2.2.1 _ = _; rw [e22])
  obtain ⟨M3, d1, C, d2, -⟩ := copy_ok (K := K) i0 i1 (by omega) R0' R2
  have S2 : SR M2 1 (s3.2.2.1 54) np pt (24 * tw B 0 + B 2) := by
    refine ⟨⟨by rw [hM2, mI_n (by omega)]; exact mI_s, ?_, ?_, by omega⟩, ?_, fun w k hw hk => ?_, fun w k hw hk => ?_, fun p hp' => ?_⟩
    · rw [g0]; exact congrArg nI (by omega)
    · rw [g1]; exact congrArg nI (by omega)
    · obtain ⟨m, m1, m2, m3⟩ := c5
      exact ⟨m, m1, by rw [s75, f2' 1 (by omega) (by omega)]; exact m2, fun p hp' => by rw [(gp p (by omega)).1 hp', m3 p hp']⟩
    · rw [f2 _ (by omega), c3 w k hw hk, gt w k hw hk]
      by_cases z : w ≤ np ∧ k < nk
      · rw [if_pos z, if_pos z]
        exact ⟨rfl, _, (V w z.1).1 k z.2, rfl⟩
      · rw [if_neg z, if_neg z]
        exact st w k hw hk
    · rw [f2 _ (by omega), c4 w k hw hk, gs w k hw hk]
      by_cases z : w ≤ np ∧ k < nf
      · rw [if_pos z, if_pos z]
        exact ⟨rfl, _, (V w z.1).2 k z.2, rfl⟩
      · rw [if_neg z, if_neg z]
        exact ss w k hw hk
    · have e90 : M2.1 (sbo 1 + 15) p = M1.1 90 p := congrFun (f2 90 (by omega)) p
      rw [e90, c6 p hp', (gp p hp').2]
      by_cases z : p < np
      · rw [if_pos z, if_pos z]
        exact ⟨_, _, (W p z).2, (W p z).2, rfl, rfl, fun _ => rfl⟩
      · rw [if_neg z, if_neg z]
        exact sd p hp'
  have S3 := S2.cp C b.2.2
  have hd : 24 * tw B 0 + B 2 ≤ 23999 := by omega
  have F3 : ∀ o, o < 16 ∨ 134 ≤ o → M3.1 o = M0.1 o := fun o ho => by rw [C.1.1 o (by omega), f2 o (by omega), hM.1 o (by omega)]
  have F4 : M3.2.2 = M0.2.2 := by rw [C.2.1, hM2]; exact e22
  have F5 : M3.2.1 0 = M0.2.1 0 := by
    rw [C.1.2.1 0 (by omega) (by omega), hM2]
    exact hM.2.1 0 (by omega) (by omega)
  have R31 : RS a M3 1 π1 0 := R2.to (by rw [C.1.1 _ (by omega)]) (by rw [C.2.1])
  have E3 : RE K a M3 s3 n nf np pt := E.fr b.2.2 ⟨fun o ho => F3 o (by omega), F5, fun o ho => by rw [F4], by rw [F4]⟩ T.te ⟨_, _, d2⟩ ⟨_, _, R31⟩
  refine ⟨hp a (mI M3 0 17 0), sI s3 68 0, ?_, ?_, mI M3 0 17 0, nk, nf, np, pt, vl, vf, vm, rfl, X.to ⟨by show M3.2.2.1 0 0 = _; rw [F4], by show M3.2.2.2.1 = _; rw [F4]⟩ T.up.up, by show HTs K a M3.2.2.2.1 _ vl vf vm; rw [F4]; exact H.up T.up.up, ?_, E3.u0 b.2.2⟩
  · have t20 : fX0_twoAt K (hp a M1) a 0 = some (nI (tw B 0)) := hA.two (k := 0) (by omega)
    have b2 : fX0_byteAt K (hp a M1) a 2 = some (nI (B 2)) := hA.at (k := 2) (by omega)
    rw [hM2] at d1
    simp only [fX0_on_179, if_neg n01, x_g10, x_g9, x_rcv, bsm, t20, b2, eh, s_p0 i1, s_p2 i1, s_rcv i0, d1, x_p17]
  · have t20 : fX6_twoAt σ 0 = some (nI (tw B 0)) := ZT'.two (k := 0) (by omega)
    have w0 : tI σ 54 (0 : Int32) (nI (tw B 0)) = some (sA σ 54 0 (nI (tw B 0))) := tp54 (i := 0) (by omega)
    have b2 : aI (sA σ 54 0 (nI (tw B 0))) 0 (2 : Int32) = some (nI (B 2)) := (ZT'.to (sA_n (by omega)) : BT (sA σ 54 0 (nI (tw B 0))) B).at (k := 2) (by omega)
    have w1 : tI (sA σ 54 0 (nI (tw B 0))) 54 (1 : Int32) (nI (B 2)) = some (sA (sA σ 54 0 (nI (tw B 0))) 54 1 (nI (B 2))) := tp54 (i := 1) (by omega)
    simp only [t20, bsm, w0, b2, w1, t1, hq, u1]
  · refine ⟨24 * tw B 0 + B 2, π0, 0, ⟨hd, h9⟩, ?_, ?_, ?_⟩
    · exact S3.m (fun t ht => mI_o (by omega)) (fun j hj => rfl) b.2.2
    · exact d2.to (by rw [mI_n (by omega)]) rfl
    · exact ⟨u4, fun k j hk => absurd hk (by omega)⟩
theorem ps33 : PS33 K a (IV K a) := by
  intro h σ n hn I
  have I' := I.next
  obtain ⟨M, nk, nf, np, pt, vl, vf, vm, rfl, X, H, N, E⟩ := I'
  have b := X.bk
  have i0 : 0 < 22 := by omega
  have i1 : 1 < 22 := by omega
  have s75 : sbo 1 = 75 := rfl
  have s16 : sbo 0 = 16 := rfl
  have E1 := E.take b.2.2
  have N1 : KS a (mI M 0 2 0) 0 ((sI σ 1 0).2.2.1 54) np pt := N.nr b.2.2 (fun o h1 h2 => mI_o (by omega)) rfl rfl
  have X1 : HX a (mI M 0 2 0) (sI σ 1 0) nk nf np pt vl vf vm := X.to ⟨rfl, rfl⟩ (UpE.refl σ).up
  have H1 : HTs K a (mI M 0 2 0).2.2.2.1 (sI σ 1 0) vl vf vm := H.up (UpE.refl σ).up
  obtain ⟨-, ⟨tp, z1, z2, z3, -⟩, -⟩ := E
  have tk := taken_c (K := K) (a := a) z2
  obtain ⟨M0, hM0⟩ : ∃ M0, M0 = mI M 0 2 0 := ⟨_, rfl⟩
  obtain ⟨σ0, hσ0⟩ : ∃ σ0, σ0 = sI σ 1 0 := ⟨_, rfl⟩
  rw [← hM0] at E1 N1 X1 H1 tk
  rw [← hσ0] at E1 N1 X1 H1
  obtain ⟨B, ZA, ZB⟩ := ZP.bt E1.2.2.1
  have e0 := SameH.refl M0
  obtain ⟨q, hq⟩ : ∃ q, pf nk nf (1 + np) = q := ⟨_, rfl⟩
  have hm : (1 + np) * (2 * nk + nf) ≤ 120 := Nat.le_trans (Nat.mul_le_mul (show 1 + np ≤ 6 by omega) (show 2 * nk + nf ≤ 20 by omega)) (by omega)
  have hq2 : q ≤ 123 := by rw [← hq, pf]; omega
  have eL : (3 : Int32) + nI (2 * nk + nf) * nI (np + 1) = nI q := by
    rw [ki3, nI_mul, nI_add, ← hq, pf, Nat.mul_comm, Nat.add_comm np 1]
  have ekf : (2 : Int32) * nI nk + nI nf = nI (2 * nk + nf) := by rw [ki2, nI_mul, nI_add]
  have eLL : nI q + 3 * nI np + 1 = nI (q + 3 * np + 1) := by rw [ki3, nI_mul, nI_add, nI_1]
  -- the tried State is copied
  obtain ⟨hr, π, kp, N11, N12, N13, N14⟩ := id N1
  obtain ⟨π1, kp1, R1⟩ := E1.1 1 i1
  obtain ⟨M1', d1, C, d2, -⟩ := copy_ok (K := K) i1 i0 (by omega) R1 N13
  obtain ⟨M1, hM1⟩ : ∃ M1, M1 = mI M1' (sbo 1) 1 0 := ⟨_, rfl⟩
  have es : SameH M0 M1 := ⟨by rw [hM1]; show M1'.2.2.1 0 0 = _; rw [C.2.1], by rw [hM1]; show M1'.2.2.2.1 = _; rw [C.2.1]⟩
  have m2 : M1.2.2 = M0.2.2 := by rw [hM1]; exact C.2.1
  have m20 : M1.2.1 0 = M0.2.1 0 := by rw [hM1]; exact C.1.2.1 0 (by omega) (by omega)
  have m1 : ∀ o, (o < 75 ∨ 134 ≤ o) → M1.1 o = M0.1 o := fun o ho => by rw [hM1, mI_o (by omega)]; exact C.1.1 o (by omega)
  have MF1 : MF 1 M0 M1 := ⟨fun o ho => m1 o (by omega), fun o h1 h2 => by rw [hM1]; exact C.1.2.1 o h1 h2, fun o ho => by rw [m2], by rw [m2]⟩
  have R1' : RS a M1 1 π1 kp := d2.to (by rw [hM1, mI_n (by omega)]) (by rw [hM1]; rfl)
  have ZA1 : BA M1 B := ZA.to (m1 8 (by omega))
  have h88 : ∀ t0, fX0_on_88 K a (hp a M0) (nI (2 * nk + nf)) (nI q) t0 = fX0_on_108 K a FU (hp a M1) (nI (2 * nk + nf)) (nI q) t0 0 := fun t0 => by
    simp only [fX0_on_88, x_g10, x_g9, bsm, s_rcv i1, d1, s_p1 i1, hM1]
  -- refused
  have bad : ∀ M2, F1 M1 M2 → (∃ π kp, RS a M2 1 π kp) → ∃ h' σ', fX0_on_179 K a (hp a M2) 0 = some (h', 0) ∧ ((aI σ0 9 (5 : Int32)).bind fun v7 => (tI σ0 9 (5 : Int32) (v7 + (1 : Int32))).bind fun σ8 => some (σ8, (0 : Int32))) = some (σ', 0) ∧ IV K a h' σ' (n + 1) := fun M2 F R2 =>
    on_no (IV.st1 X1 H1 N1 E1 (fun o ho => by rw [F.2.1 o ho, m1 o ho]) (by rw [F.1]; exact m2) (by rw [F.1]; exact m20) R2)
  have z108 : fX0_on_108 K a FU (hp a M1) (nI (2 * nk + nf)) (nI q) 0 0 = fX0_on_179 K a (hp a M1) 0 := by
    obtain ⟨fu, hf⟩ : ∃ fu, FU = fu + 1 := ⟨99999, rfl⟩
    rw [← on_z (K := K) X1 es (nI q)]
    rw [hf]
    simp only [fX0_on_108, x_rcv, X1.people es, bsm, if_true]
    by_cases z : nI np < 0
    · rw [if_pos z]
    · rw [if_neg z]
  have h87 : fX0_on_87 K a (hp a M0) (nI (2 * nk + nf)) (nI q) = fX0_on_179 K a (hp a M1) 0 := by
    unfold fX0_on_87; rw [h88, z108]
  obtain ⟨hb, sb, bb1, bb2, bb3⟩ := bad M1 ⟨rfl, fun _ _ => rfl, rfl⟩ ⟨_, _, R1'⟩
  -- both
  have cc : fX0_on K (hp a M) a = if nI tp = nI (q + 3 * np + 1) then
      ((fX0_byteAt K (hp a M0) a (nI tp - 1)).bind fun x13 => (fX0_check K (hp a M0) (some (a + 8)) (nI tp - 1)).bind fun x15 => if x13 = x15 then (fX0_twoAt K (hp a M0) a 0).bind fun x18 => if (999 : Int32) < x18 then some (hb, 0) else (fX0_byteAt K (hp a M0) a 2).bind fun x21 => if (24 : Int32) ≤ x21 then some (hb, 0) else fX0_on_88 K a (hp a M0) (nI (2 * nk + nf)) (nI q) 1 else some (hb, 0)) else some (hb, 0) := by
    simp only [fX0_on, x_rcv, bsm, tk, X1.kinds e0, X1.films e0, X1.people e0, nI_1, ekf, eL, eLL, x_g1, h87, bb1]
  have tt : fX6_on σ = (fX6_isImage σ0 (nI tp)).bind fun x1 => if x1 = 0 then some (sb, 0) else ((fX6_twoAt σ0 (0 : Int32)).bind fun x3 => (tI σ0 54 (0 : Int32) x3).bind fun σ4 => (aI σ4 0 (2 : Int32)).bind fun v5 => (tI σ4 54 (1 : Int32) v5).bind fun σ6 => fX6_on_55 FU σ6 (0 : Int32)) := by
    unfold fX6_on
    rw [z3, ← hσ0, bb2]
  have ti : fX6_isImage σ0 (nI tp) = if nI tp = nI (q + 3 * np + 1) then ((aI σ0 0 (nI tp - 1)).bind fun v5 => (fX6_checked σ0 0 (nI tp - 1)).bind fun x6 => if v5 = x6 then (fX6_twoAt σ0 0).bind fun x8 => if (999 : Int32) < x8 then some 0 else (aI σ0 0 2).bind fun v10 => if v10 < (24 : Int32) then fX6_isImage_72 σ0 FU (nI q) 0 else some 0 else some 0) else some 0 := by
    simp only [fX6_isImage, X1.persM, bsm, nI_1', pfT X1 (1 + np), hq, eLL]
  rw [cc, tt, ti]
  have fail : ∀ (c : Option (HS × Int32)) (t : Option Int32), c = some (hb, 0) → t = some 0 → ∃ h' σ' v, c = some (h', v) ∧ (t.bind fun x1 => if x1 = 0 then some (sb, 0) else ((fX6_twoAt σ0 (0 : Int32)).bind fun x3 => (tI σ0 54 (0 : Int32) x3).bind fun σ4 => (aI σ4 0 (2 : Int32)).bind fun v5 => (tI σ4 54 (1 : Int32) v5).bind fun σ6 => fX6_on_55 FU σ6 (0 : Int32))) = some (σ', v) ∧ IV K a h' σ' (n + 1) := by
    rintro c t rfl rfl
    exact ⟨hb, sb, 0, rfl, by rw [bsm, if_pos rfl], bb3⟩
  by_cases q1 : tp = q + 3 * np + 1
  rotate_left
  · have q1' : ¬ nI tp = nI (q + 3 * np + 1) := fun z => q1 ((nI_eq (by omega) (by omega)).mp z)
    rw [if_neg q1', if_neg q1']
    exact fail _ _ rfl rfl
  have etp : nI tp - 1 = nI (tp - 1) := nI_m1 (by omega)
  rw [if_pos (congrArg nI q1), if_pos (congrArg nI q1), etp, ZA.at (show tp - 1 < 1600 by omega), ZB.at (show tp - 1 < 1600 by omega)]
  obtain ⟨c, hc, x1, x2⟩ := chk_o (K := K) (a := a) (M := M0) (σ := σ0) (arr := some (a + 8)) (ka := 0) (N := tp - 1) (by omega) (fun j hj => by
    obtain ⟨c1, c2⟩ := ZA j (by omega)
    exact ⟨B j, c1, by rw [aX_o (n := 1600) rfl rfl (by omega) (by omega), (ZB j (by omega)).2], _, c_tape (by omega), c2⟩)
  have t0 : fX0_twoAt K (hp a M0) a 0 = some (nI (tw B 0)) := ZA.two (k := 0) (by omega)
  have t0' : fX6_twoAt σ0 0 = some (nI (tw B 0)) := ZB.two (k := 0) (by omega)
  have b2 : fX0_byteAt K (hp a M0) a 2 = some (nI (B 2)) := ZA.at (k := 2) (by omega)
  have b2' : aI σ0 0 2 = some (nI (B 2)) := ZB.at (k := 2) (by omega)
  have l2 := (ZA 2 (by omega)).1
  have l0 := tw_le (ZA 0 (by omega)).1 (ZA 1 (by omega)).1
  have k9 : ((999 : Int32) < nI (tw B 0)) = (999 < tw B 0) := nI_ltE (a := 999) (by omega) (by omega)
  have k24 : ((24 : Int32) ≤ nI (B 2)) = (24 ≤ B 2) := nI_leE (a := 24) (by omega) (by omega)
  have k24' : (nI (B 2) < (24 : Int32)) = (B 2 < 24) := nI_ltE (b := 24) (by omega) (by omega)
  simp only [bsm, x1, x2, t0, b2, b2', k9, k24, k24']
  rw [show (fX6_twoAt σ0 0).bind (fun x8 => if (999 : Int32) < x8 then some 0 else if B 2 < 24 then fX6_isImage_72 σ0 FU (nI q) 0 else some 0) = if 999 < tw B 0 then some 0 else if B 2 < 24 then fX6_isImage_72 σ0 FU (nI q) 0 else some 0 by simp only [t0', bsm, k9]]
  by_cases q2 : nI (B (tp - 1)) = nI c
  rotate_left
  · rw [if_neg q2, if_neg q2]
    exact fail _ _ rfl rfl
  rw [if_pos q2, if_pos q2]
  by_cases q3 : 999 < tw B 0
  · rw [if_pos q3, if_pos q3]
    exact fail _ _ rfl rfl
  rw [if_neg q3, if_neg q3]
  by_cases q4 : 24 ≤ B 2
  · rw [if_pos q4, if_neg (show ¬ B 2 < 24 by omega)]
    exact fail _ _ rfl rfl
  rw [if_neg q4, if_pos (show B 2 < 24 by omega), h88]
  -- what the two say of the image's inside
  have V1 := onT_w X1 ZB (q := q) (by omega)
  have no : ∀ M2, F1 M1 M2 → (∃ π kp, RS a M2 1 π kp) → fX0_on_108 K a FU (hp a M1) (nI (2 * nk + nf)) (nI q) 1 0 = fX0_on_179 K a (hp a M2) 0 → fX6_isImage_72 σ0 FU (nI q) 0 = some 0 → ∃ h' σ' v, fX0_on_108 K a FU (hp a M1) (nI (2 * nk + nf)) (nI q) 1 0 = some (h', v) ∧ ((fX6_isImage_72 σ0 FU (nI q) 0).bind fun x1 => if x1 = 0 then some (sb, 0) else ((fX6_twoAt σ0 (0 : Int32)).bind fun x3 => (tI σ0 54 (0 : Int32) x3).bind fun σ4 => (aI σ4 0 (2 : Int32)).bind fun v5 => (tI σ4 54 (1 : Int32) v5).bind fun σ6 => fX6_on_55 FU σ6 (0 : Int32))) = some (σ', v) ∧ IV K a h' σ' (n + 1) := by
    intro M2 F R2 e1 e2
    obtain ⟨h', s', y1, y2, y3⟩ := bad M2 F R2
    rw [bb2] at y2
    cases y2
    exact ⟨h', sb, 0, e1.trans y1, by rw [e2, bsm, if_pos rfl], y3⟩
  have RF : ∀ M2 : CM, F1 M1 M2 → ∃ π kp, RS a M2 1 π kp := fun M2 F => ⟨π1, kp, R1'.to F.2.2 (by rw [F.1])⟩
  rcases on_ws (K := K) X1 es ZA1 (nI q) with ⟨M2, w1, w2, w3, w4, w5, w6⟩ | ⟨M2, w1, w2, w3⟩
  · have es2 : SameH M0 M2 := ⟨by rw [w3]; exact es.1, by rw [w3]; exact es.2⟩
    have ZA2 : BA M2 B := ZA1.to (w4 8 (by omega))
    have R2 : RS a M2 1 π1 kp := R1'.to (by rw [w4 _ (by omega)]) (by rw [w3])
    rcases on_ps (K := K) X1 es2 ZA2 (q := q) (by omega) (by rw [w4 75 (by omega), hM1]; exact mI_s) with ⟨M3, v1, v2, v3, v4, v5, v6, v7⟩ | ⟨M3, v1, v2, v3⟩
    · rcases V1 with ⟨y1, y2, y3⟩ | ⟨y1, y2⟩
      rotate_left
      · exact absurd ⟨w2, v2⟩ y2
      have R3 : RS a M3 1 π1 kp := R2.to (by rw [s75, v5 2 (by omega)]) (by rw [v3])
      have MF3 : MF 1 M0 M3 := by
        refine ⟨fun o ho => ?_, fun o h1 h2 => ?_, fun o ho => ?_, ?_⟩
        · rw [v4 o (by omega) (by omega), w4 o (by omega)]; exact m1 o (by omega)
        · rw [v3, w3]; exact MF1.2.1 o h1 h2
        · rw [v3, w3]; exact MF1.2.2.1 o ho
        · rw [v3, w3]; exact MF1.2.2.2
      obtain ⟨h', s', f1, f2, f3⟩ := on_yes (K := K) X1 H1 N11.2 N12 E1 ZA ZB hq (by omega) (by omega) (by omega) y2 y3 MF3 (by rw [v3, w3]; exact m2) (by rw [v3, w3, hM1]; exact C.2.2.1)
        (fun w k hw hk => by
          rw [v4 _ (by omega) (by omega), w5 w k hw hk]
          by_cases z : w ≤ np ∧ k < nk
          · rw [if_pos z, if_pos z]
          · rw [if_neg z, if_neg z, hM1, mI_o (by omega)]; exact C.2.2.2.2.1 w k hw hk)
        (fun w k hw hk => by
          rw [v4 _ (by omega) (by omega), w6 w k hw hk]
          by_cases z : w ≤ np ∧ k < nf
          · rw [if_pos z, if_pos z]
          · rw [if_neg z, if_neg z, hM1, mI_o (by omega)]; exact C.2.2.2.2.2.1 w k hw hk)
        v6
        (fun k hk => by
          rw [v7 k hk]
          by_cases z : k < np
          · rw [if_pos z, if_pos z]
          · rw [if_neg z, if_neg z, w4 90 (by omega), hM1, mI_o (by omega)]; exact C.2.2.2.2.2.2.1 k hk)
        ⟨_, _, R3⟩
      exact ⟨h', s', 1, w1.trans (v1.trans f1), by rw [y1, bsm, if_neg n01]; exact f2, f3⟩
    · rcases V1 with ⟨y1, y2, y3⟩ | ⟨y1, y2⟩
      · exact absurd y3 v2
      · have F2 : F1 M1 M2 := ⟨w3, fun o ho => w4 o (by omega), by rw [w4 75 (by omega)]⟩
        exact no M3 (F2.tr v3) (RF M3 (F2.tr v3)) (w1.trans v1) y1
  · rcases V1 with ⟨y1, y2, y3⟩ | ⟨y1, y2⟩
    · exact absurd y2 w2
    · have es2 : SameH M0 M2 := ⟨by rw [w3.1]; exact es.1, by rw [w3.1]; exact es.2⟩
      exact no M2 w3 (RF M2 w3) (w1.trans (on_z (K := K) X1 es2 (nI q))) y1
end PO4

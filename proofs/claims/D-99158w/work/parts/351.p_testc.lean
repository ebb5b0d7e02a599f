/-! PARSER, tests at the component -/
set_option maxRecDepth 100000
/-- the loop of tests joined by a word -/
def lpJ (K : KE) (a0 : Nat) (one : HS → Nat → CRes) (t : Nat) : Nat → HS → Option Nat → CRes
  | 0, _, _ => none
  | n + 1, h, a1 =>
    (rcv K h (some a0) 2).bind fun b1 =>
    (fX2_passes K h b1 (K.2.1 t)).bind fun x2 =>
    tb x2 (fun q3 => some (x2.1, .inl q3)) fun v4 =>
    if v4 = 0 then
      some (x2.1, .inr a1)
    else
    (gR K x2.1 a1 14 0).bind fun v7 =>
    (rcv K x2.1 (some a0) 2).bind fun b8 =>
    (one x2.1 b8).bind fun x9 =>
    tb x9 (fun q10 => some (x9.1, .inl q10)) fun v11 =>
    (rcv K x9.1 v7 19).bind fun b13 =>
    (fJ2_add K x9.1 b13 v11).bind fun x14 =>
    lpJ K a0 one t n x14.1 a1
def faF (K : KE) (a0 : Nat) (one : HS → Nat → CRes) (t : Nat) (al : Int32) (h : HS) : CRes :=
  (alc K h (.inr (14, df14)) 2).bind fun h1 =>
  (fX17_init K h1 h.2.1 al).bind fun x2 =>
  (gR K x2 (some h.2.1) 14 0).bind fun v3 =>
  (rcv K x2 (some a0) 2).bind fun b4 =>
  (one x2 b4).bind fun x5 =>
  tb x5 (fun q6 => some (x5.1, .inl q6)) fun v7 =>
  (rcv K x5.1 v3 19).bind fun b9 =>
  (fJ2_add K x5.1 b9 v7).bind fun x10 =>
  lpJ K a0 one t FU x10.1 (some h.2.1)
def thF (K : KE) (a0 : Nat) (rsC : Nat → HS → Nat → CRes) (h : HS) : CRes :=
  (fX2_sum K h rsC a0).bind fun x17 =>
  tb x17 (fun q18 => some (x17.1, .inl q18)) fun v19 =>
  (rcv K x17.1 (some a0) 2).bind fun b21 =>
  (fX2_here K x17.1 b21).bind fun x22 =>
  if x22.2 = (60 : Int32) then
    fX2_fact_148 K a0 rsC x22.1 v19 x22.2
  else
  if x22.2 = (62 : Int32) then
    fX2_fact_148 K a0 rsC x22.1 v19 x22.2
  else
  if x22.2 = (61 : Int32) then
    fX2_fact_148 K a0 rsC x22.1 v19 x22.2
  else
  (gI K x22.1 (some a0) 2 2).bind fun v26 =>
  (rcv K x22.1 (some a0) 2).bind fun b27 =>
  (fX2_wrong K x22.1 b27 (1 : Int32) v26).bind fun x28 =>
  (rcv K x28.1 x28.2 3).bind fun q29 =>
  some (x28.1, .inl q29)
/-- the loop's answer -/
def okJ (K : KE) (a : Nat) (B : Nat → Nat) (L d s al v : Nat) (M : CM) (p : Nat) (res : CRes) (pr : PRes) : Prop := match pr with
  | .inl e => ∃ M', res = some (hp a M', .inl (a + 10)) ∧ EX s M M' ∧ (M'.1 10 6 = nI e.1 ∧ M'.1 10 7 = nI e.2) ∧ (szM M' + v * wn B L p ≤ szM M + 400 * (L - p) ∧ slM M' + v * wn B L p ≤ slM M + 4000 * (L - p))
  | .inr (p', cs) => ∃ M' n, res = some (hp a M', .inr (some s)) ∧ EX s M M' ∧ RD M' B L p' ∧ RK M M' ∧ (szM M' + 400 * (L - p') + v * wn B L p ≤ szM M + 400 * (L - p) + v * wn B L p' + 6 * wn B L p' ∧ slM M' + 4000 * (L - p') + v * wn B L p ≤ slM M + 4000 * (L - p) + v * wn B L p' + 6 * wn B L p') ∧ FaO K a d s (szM M') al M'.2.2.2.1 n cs ∧ 1 ≤ n ∧ n ≤ 2000
section PTC
variable {K : KE} {a i n k p q L m d dd c s t u v w ce se kk cnt p' p1 al : Nat} {M M' M1 M2 : CM} {B : Nat → Nat} {cs c1 : List Nat} {rsC : Nat → HS → Nat → CRes} {rsP : Nat → Nat → Nat → PRes} {res : CRes} {pr : PRes} {one : HS → Nat → CRes} {oneP : Nat → PRes}
theorem both_lpJ (a0 : Nat) : ∀ n h a1, fX2_both_23 K a0 rsC n h a1 = lpJ K a0 (fun h b => fX2_fact K h rsC b) 29 n h a1 := by
  intro n
  induction n with
  | zero => intros; rfl
  | succ n ih =>
    intro h a1
    simp only [fX2_both_23, lpJ, ih]
theorem test_lpJ (a0 : Nat) : ∀ n h a1, fX2_test_23 K a0 rsC n h a1 = lpJ K a0 (fun h b => fX2_both K h rsC b) 28 n h a1 := by
  intro n
  induction n with
  | zero => intros; rfl
  | succ n ih =>
    intro h a1
    simp only [fX2_test_23, lpJ, ih]
theorem both_faF (a0 : Nat) (h : HS) : fX2_both K h rsC a0 = faF K a0 (fun h b => fX2_fact K h rsC b) 29 1 h := by
  simp only [fX2_both, faF, both_lpJ]
theorem test_faF (a0 : Nat) (h : HS) : fX2_test K h rsC a0 = faF K a0 (fun h b => fX2_both K h rsC b) 28 0 h := by
  simp only [fX2_test, faF, test_lpJ]
theorem okJ.tr (h : okJ K a B L d s al v M1 p1 res pr) (e : EX s M M1) (r : RK M M1) (b1 : szM M1 + 400 * (L - p1) + v * wn B L p ≤ szM M + 400 * (L - p) + v * wn B L p1) (b2 : slM M1 + 4000 * (L - p1) + v * wn B L p ≤ slM M + 4000 * (L - p) + v * wn B L p1) : okJ K a B L d s al v M p res pr := by
  rcases pr with z | ⟨p', cs⟩
  · obtain ⟨M', h1, h2, h3, h4, h5⟩ := h
    exact ⟨M', h1, e.tr h2 (Nat.le_refl _), h3, by omega, by omega⟩
  · obtain ⟨M', n, h1, h2, h3, h4, ⟨h5, h6⟩, h7⟩ := h
    exact ⟨M', n, h1, e.tr h2 (Nat.le_refl _), h3, r.tr h4, ⟨by omega, by omega⟩, h7⟩
theorem lpJ_o (Ct : CT K a t (wdL w)) (hv : v ≤ 6) (hk : 11 - al = kk) (hsb : a + 1352 ≤ s) (hce : ce ≤ 50 ∧ se ≤ 150)
    (hone : ∀ M p, RB a B L m d M p → RO K B L 0 ce se M p → okR a B L (TeK dd K a) 0 ce se v M p (one (hp a M) (a + 9)) (oneP p))
    (hok : ∀ p, p ≤ L → okP B L m p (oneP p)) :
    ∀ (n p : Nat) (M : CM) (fu cnt : Nat) (cs : List Nat), L - p + 1 ≤ n → n < fu → RB a B L m d M p → RO K B L v 0 0 M p → FaO K a dd s (szM M) al M.2.2.2.1 cnt cs → 1 ≤ cnt → 2 * cnt ≤ p + 1 →
      okJ K a B L dd s al v M p (lpJ K (a + 9) one t fu (hp a M) (some s)) (joinP B L oneP w kk n p cs) := by
  intro n
  induction n with
  | zero =>
    intro p M fu cnt cs h1
    omega
  | succ n ih =>
    intro p M fu cnt cs h1 h2 W R C hc hc2
    obtain ⟨fu, rfl⟩ : ∃ n, fu = n + 1 := ⟨fu - 1, by omega⟩
    have R0 := W.1
    have hL := R0.2.1
    have hp' := R0.2.2.1
    have ql := @sk_le p L B hp'
    have qg := @sk_ge p L B
    have wl := @wn_le p L B hp'
    have wv : v * wn B L p ≤ 6 * wn B L p := Nat.mul_le_mul_right _ hv
    have hz := W.2.1
    have hN := W.2.2.1
    have hzM : s + 3 ≤ szM M := by
      obtain ⟨_, _, _, _, ⟨_, _, z⟩, _⟩ := C
      exact z
    obtain ⟨R1, R2⟩ := R
    rw [joinP]
    by_cases le : LEa B L (sk B L p)
    rotate_left
    · have w0 := wn_0 le
      have w0' := wn_sk (B := B) (L := L) (p := p)
      rw [if_neg (fun z => le z.1), if_neg (fun z : HW B L (sk B L p) (wdL w) => le z.1.1), if_neg le]
      have pa : fX2_passes K (hp a M) (a + 9) (K.2.1 t) = some (hp a (mI M 9 2 (nI (sk B L p))), .inr 0) := by
        have hh := R0.here (K := K) (a := a)
        have l1 := (ltI (K := K) (σ := (fun _ => 0, fun _ => 0, fun _ _ => 0, fun _ _ => 0)) (p := sk B L p) R0.lt hL (hp a (mI M 9 2 (nI (sk B L p))))).1
        simp only [fX2_passes, r_g2, bsm, r_rcv, hh, l1, if_neg le, if_true]
      have s1 : szM (mI M 9 2 (nI (sk B L p))) = szM M := rfl
      have t1 : slM (mI M 9 2 (nI (sk B L p))) = slM M := rfl
      refine ⟨mI M 9 2 (nI (sk B L p)), cnt, ?_, (EX.refl M).si (Or.inl rfl), R0.mv ql, (RK.eq rfl : RK M M).mv, ⟨by omega, by omega⟩, C, hc, by omega⟩
      simp only [lpJ, r_rcv, bsm, pa, tb, if_true]
    have w1 := wn_1 le
    have we1 := wn_e (B := B) (L := L) (p := p)
    have wel := @we_le (sk B L p) L B ql
    rcases passC (K := K) R0 Ct hz hN (show szM M + 3 ≤ K.2.2.1 by omega) (show slM M + 4 + 2 * wn B L p ≤ K.2.2.2 by omega) with ⟨nl, -⟩ | ⟨⟨-, pt⟩, M', e1, e2, e3, e4, e5⟩ | ⟨⟨-, npt⟩, M1, x1, k1, f1, s1, t1, h⟩
    · exact absurd le nl
    · rw [if_pos ⟨le, pt⟩]
      have s' : szM M' = szM M := by rw [show szM M' = M'.2.2.2.2.1 from rfl, e2]
      have t' : slM M' = slM M := by rw [show slM M' = M'.2.2.2.2.2 from rfl, e2]
      refine ⟨M', ?_, e3.wk (show s ≤ szM M by omega), ⟨e4, e5⟩, by omega, by omega⟩
      simp only [lpJ, r_rcv, bsm, e1, tb]
    rw [if_neg (fun z => npt z.2)]
    have s1' : szM M1 = szM M + 3 := s1
    have t1' : slM M1 = slM M + 4 + 2 * wn B L p := t1
    rcases h with ⟨wq, e1, r1⟩ | ⟨nwq, e1, r1⟩
    rotate_left
    · rw [if_neg (fun z : HW B L (sk B L p) (wdL w) => nwq z.2), if_pos le]
      refine ⟨M1, cnt, ?_, x1.wk (show s ≤ szM M by omega), r1, k1, ⟨by omega, by omega⟩, ?_, hc, by omega⟩
      · simp only [lpJ, r_rcv, bsm, e1, tb, if_true]
      · obtain ⟨ea, ca, el, cj, g1, g2, g3, g4, g5⟩ := C.to (D' := M1.2.2.2.1) (fun y h1 h2 => x1.2.2.2.1 y h2)
        exact ⟨ea, ca, el, cj, ⟨g1.1, g1.2.1, by omega⟩, g2, ⟨g3.1, by omega⟩, fun j hj => by
          obtain ⟨lo, hi, k1, k2, k3, k5⟩ := g4 j hj
          exact ⟨lo, hi, k1, by omega, k3, k5⟩, g5⟩
    rw [if_pos (⟨⟨le, npt⟩, wq⟩ : HW B L (sk B L p) (wdL w))]
    have W1 : RB a B L m d M1 (we B L (sk B L p)) := W.nx x1 k1 r1
    have I := hone M1 (we B L (sk B L p)) W1 ⟨by omega, by omega⟩
    have ok := hok (we B L (sk B L p)) wel
    have C1 : FaO K a dd s (szM M) al M1.2.2.2.1 cnt cs := C.to (fun y h1 h2 => x1.2.2.2.1 y h2)
    have gr := C1.gr (K := K)
    cases hpr : oneP (we B L (sk B L p)) with
    | inl e =>
      rw [hpr] at I
      obtain ⟨M', i1, i2, i3, i4, i5⟩ := I
      refine ⟨M', ?_, (x1.wk (show s ≤ szM M by omega)).tr i2 (by omega), i3, by omega, by omega⟩
      simp only [lpJ, r_rcv, bsm, e1, tb, if_neg n01, gr, i1]
    | inr e =>
      obtain ⟨p1, c1⟩ := e
      rw [hpr] at I ok
      obtain ⟨M2, r, i1, i2, i3, i4, ⟨i5, i6⟩, i7⟩ := I
      obtain ⟨⟨o1, o2, -⟩, -⟩ := ok
      have ez2 : szM M1 ≤ szM M2 := i2.2.2.2.2.1
      have wl1 := @wn_le p1 L B o2
      have wv1 : v * wn B L p1 ≤ 6 * wn B L p1 := Nat.mul_le_mul_right _ hv
      have C2 : FaO K a dd s (szM M) al M2.2.2.2.1 cnt cs := C1.to (fun y h1 h2 => i2.2.2.2.1 y (by omega))
      obtain ⟨rc3, M3, a3, C3, m3, x3, s3, t3⟩ := faAdd (K := K) C2 (show szM M ≤ szM M1 by omega) (Nat.le_refl _) i7 hsb (by omega) (by omega) (by omega)
      rw [if_neg (by omega), hk] at C3
      have W3 : RB a B L m d M3 p1 := (W1.nx i2 i4 i3).cl m3 x3 (by omega)
      have J := ih p1 M3 fu (cnt + 1) (cs ++ c1 ++ [kk]) (by omega) (by omega) W3 ⟨by omega, by omega⟩ C3 (by omega) (by omega)
      have st : lpJ K (a + 9) one t (fu + 1) (hp a M) (some s) = lpJ K (a + 9) one t fu (hp a M3) (some s) := by
        rw [lpJ]
        simp only [r_rcv, bsm, e1, tb, if_neg n01, gr, i1, rc3, a3]
      rw [st]
      exact J.tr ((x1.wk (show s ≤ szM M by omega)).tr ((i2.wk (show s ≤ szM M1 by omega)).tr x3 (Nat.le_refl _)) (Nat.le_refl _)) (k1.tr (i4.tr (RK.eq m3))) (by omega) (by omega)
/-- tests joined, from the beginning -/
theorem faFC (Ct : CT K a t (wdL w)) (ha : al < 2) (hv : v ≤ 6) (hk : 11 - al = kk) (hce : ce ≤ 50 ∧ se ≤ 150)
    (hone : ∀ M p, RB a B L m d M p → RO K B L 100 ce se M p → okR a B L (TeK dd K a) 100 ce se v M p (one (hp a M) (a + 9)) (oneP p))
    (hok : ∀ p, p ≤ L → okP B L m p (oneP p)) (W : RB a B L m d M p) (R : RO K B L 100 (ce + 4) (se + 9) M p) :
    okR a B L (TeK (dd + 1) K a) 100 (ce + 4) (se + 9) (v + 6) M p (faF K (a + 9) one t (nI al) (hp a M)) (pb (oneP p) fun p1 c1 => joinP B L oneP w kk (L - p1 + 1) p1 c1) := by
  have R0 := W.1
  have hL := R0.2.1
  have hp' := R0.2.2.1
  have hz := W.2.1
  have wl := @wn_le p L B hp'
  obtain ⟨R1, R2⟩ := R
  obtain ⟨Ma, M1, a1, a2, C1, m1, x1, s1, t1⟩ := faNew (K := K) (M := M) (d := dd) ha hz (by omega) (by omega)
  have W1 : RB a B L m d M1 p := W.cl m1 x1 (by omega)
  have I := hone M1 p W1 ⟨by omega, by omega⟩
  have ok := hok p hp'
  have sz0 : (hp a M).2.1 = szM M := rfl
  have gr := C1.gr (K := K)
  cases hpr : oneP p with
  | inl e =>
    rw [hpr] at I
    obtain ⟨M', i1, i2, i3, i4, i5⟩ := I
    refine ⟨M', ?_, x1.tr i2 (by omega), i3, by omega, by omega⟩
    simp only [faF, a1, bsm, sz0, a2, gr, r_rcv, i1, tb]
  | inr e =>
    obtain ⟨p1, c1⟩ := e
    rw [hpr] at I ok
    obtain ⟨M2, r, i1, i2, i3, i4, ⟨i5, i6⟩, i7⟩ := I
    obtain ⟨⟨o1, o2, -⟩, -⟩ := ok
    have wl1 := @wn_le p1 L B o2
    have wv1 : v * wn B L p1 ≤ 6 * wn B L p1 := Nat.mul_le_mul_right _ hv
    have ez2 : szM M1 ≤ szM M2 := i2.2.2.2.2.1
    have C2 : FaO K a dd (szM M) (szM M1) al M2.2.2.2.1 0 [] := C1.to (fun y h1 h2 => i2.2.2.2.1 y (by omega))
    obtain ⟨rc3, M3, a3, C3, m3, x3, s3, t3⟩ := faAdd (K := K) C2 (Nat.le_refl _) (Nat.le_refl _) i7 (by omega) (by omega) (by omega) (by omega)
    rw [if_pos rfl] at C3
    have W3 : RB a B L m d M3 p1 := (W1.nx i2 i4 i3).cl m3 x3 (by omega)
    have J := lpJ_o (K := K) (s := szM M) Ct hv hk (by omega) hce (fun M p W R => (hone M p W ⟨by have := R.1; omega, by have := R.2; omega⟩).w0) hok (L - p1 + 1) p1 M3 FU 1 c1 (Nat.le_refl _) (FU_lt (by omega)) W3 ⟨by omega, by omega⟩ C3 (by omega) (by omega)
    have st : faF K (a + 9) one t (nI al) (hp a M) = lpJ K (a + 9) one t FU (hp a M3) (some (szM M)) := by
      simp only [faF, a1, bsm, sz0, a2, gr, r_rcv, i1, tb, rc3, a3]
    rw [st]
    have x13 : EX (szM M) M M3 := x1.tr ((i2.wk (show szM M ≤ szM M1 by omega)).tr x3 (Nat.le_refl _)) (Nat.le_refl _)
    have k13 : RK M M3 := (RK.eq m1).tr (i4.tr (RK.eq m3))
    show okR a B L (TeK (dd + 1) K a) 100 (ce + 4) (se + 9) (v + 6) M p _ (joinP B L oneP w kk (L - p1 + 1) p1 c1)
    cases hpr2 : joinP B L oneP w kk (L - p1 + 1) p1 c1 with
    | inl e =>
      rw [hpr2] at J
      obtain ⟨M', j1, j2, j3, j4, j5⟩ := J
      exact ⟨M', j1, x13.tr j2 (Nat.le_refl _), j3, by omega, by omega⟩
    | inr e =>
      obtain ⟨p2, c2⟩ := e
      rw [hpr2] at J
      obtain ⟨M', n, j1, j2, j3, j4, ⟨j5, j6⟩, j7, j8, j9⟩ := J
      exact ⟨M', szM M, j1, x13.tr j2 (Nat.le_refl _), j3, k13.tr j4, ⟨by rw [Nat.add_mul]; omega, by rw [Nat.add_mul]; omega⟩, j7.te ha j8 j9⟩
/-- two sums and a sign -/
theorem thanC (hd : d ≤ 6) (S : ∀ M p, RB a B L m d M p → RO K B L 200 14 62 M p → okR a B L (TrK (3 * (6 - d) + 3) K a) 200 14 62 0 M p (fX2_sum K (hp a M) rsC (a + 9)) (sumP B L m rsP d p)) (hok : ∀ p, p ≤ L → okP B L m p (sumP B L m rsP d p)) : ∀ M p, RB a B L m d M p → RO K B L 200 14 62 M p → okR a B L (TeK 1 K a) 200 14 62 0 M p (thF K (a + 9) rsC (hp a M)) (thanP B L m rsP d p) := by
  intro M p W R
  have R0 := W.1
  have hL := R0.2.1
  have hp' := R0.2.2.1
  have wl := @wn_le p L B hp'
  have I := S M p W R
  have ok := hok p hp'
  obtain ⟨R1, R2⟩ := R
  unfold thanP
  cases hpr : sumP B L m rsP d p with
  | inl e =>
    rw [hpr] at I
    obtain ⟨M', i1, i2, i3, i4, i5⟩ := I
    refine ⟨M', ?_, i2, i3, by omega, by omega⟩
    simp only [thF, i1, bsm, tb]
  | inr e =>
    obtain ⟨p1, c1⟩ := e
    rw [hpr] at I ok
    obtain ⟨M1, r1, i1, i2, i3, i4, ⟨i5, i6⟩, i7⟩ := I
    obtain ⟨⟨o1, o2, -⟩, -⟩ := ok
    have W1 : RB a B L m d M1 p1 := W.nx i2 i4 i3
    have ql := @sk_le p1 L B o2
    have qg := @sk_ge p1 L B
    have hh := i3.here (K := K) (a := a)
    have c60 : (chI B L (sk B L p1) = (60 : Int32)) = SI B L (sk B L p1) 60 := ch_eq (c := 60) R0.lt hL (by omega)
    have c62 : (chI B L (sk B L p1) = (62 : Int32)) = SI B L (sk B L p1) 62 := ch_eq (c := 62) R0.lt hL (by omega)
    have c61 : (chI B L (sk B L p1) = (61 : Int32)) = SI B L (sk B L p1) 61 := ch_eq (c := 61) R0.lt hL (by omega)
    have chE : ∀ c, SI B L (sk B L p1) c → chI B L (sk B L p1) = nI c := fun c h => by rw [chI, if_pos h.1, h.2]
    obtain ⟨q, hq⟩ : ∃ q, sk B L p1 = q := ⟨_, rfl⟩
    obtain ⟨M2, hM2⟩ : ∃ M2, M2 = mI M1 9 2 (nI q) := ⟨_, rfl⟩
    show okR a B L _ 200 14 62 0 M p _ (if SI B L (sk B L p1) 60 then _ else _)
    rw [hq] at ql qg hh c60 c62 c61 chE ⊢
    rw [← hM2] at hh
    have W2 : RB a B L m d M2 q := by rw [hM2]; exact W1.mv ql
    have e22 := W2.1.2.2.2.2
    have s2 : szM M2 = szM M1 := by rw [hM2]; rfl
    have t2 : slM M2 = slM M1 := by rw [hM2]; rfl
    have D2 : M2.2.2.2.1 = M1.2.2.2.1 := by rw [hM2]; rfl
    have x2 : EX (szM M) M M2 := by rw [hM2]; exact i2.si (Or.inl rfl)
    have k2 : RK M M2 := by rw [hM2]; exact i4.mv
    have ez1 : szM M ≤ szM M1 := i2.2.2.2.2.1
    have go : ∀ c, (c = 60 ∨ c = 62 ∨ c = 61) → q < L → okR a B L (TeK 1 K a) 200 14 62 0 M p (fX2_fact_148 K (a + 9) rsC (hp a M2) (some r1) (nI c)) (pb (sumP B L m rsP d (q + 1)) fun p2 c2 => .inr (p2, c1 ++ c2 ++ [if c = 60 then 7 else if c = 62 then 8 else 9])) := by
      intro c hc hl
      obtain ⟨M3, hM3⟩ : ∃ M3, M3 = mI M2 9 2 (nI (q + 1)) := ⟨_, rfl⟩
      have p3 : pV (hp a M2) (some (a + 9)) 2 2 (.int (nI (q + 1))) = some (hp a M3) := by rw [hM3]; exact r_p2
      have W3 : RB a B L m d M3 (q + 1) := by rw [hM3]; exact W2.mv hl
      have s3 : szM M3 = szM M2 := by rw [hM3]; rfl
      have t3 : slM M3 = slM M2 := by rw [hM3]; rfl
      have D3 : M3.2.2.2.1 = M2.2.2.2.1 := by rw [hM3]; rfl
      have hz3 := W3.2.1
      have hy3 : ¬ inB a (szM M3) := fun z => by have := z.2.1; omega
      obtain ⟨M4, hM4⟩ : ∃ M4, M4 = mA M3 (.inr (17, df17)) 3 := ⟨_, rfl⟩
      have al4 : alc K (hp a M3) (.inr (17, df17)) 3 = some (hp a M4) := by rw [hM4]; exact d_al hy3 (by omega) (by omega)
      have s4 : szM M4 = szM M3 + 1 := by rw [hM4]; rfl
      have t4 : slM M4 = slM M3 + 3 := by rw [hM4]; rfl
      have x34 : EX (szM M3) M3 M4 := by rw [hM4]; exact ((FX.refl (fun _ => False) M3).mA).ex (fun _ q => absurd q id) (Nat.le_refl _)
      have m41 : M4.1 = M3.1 := by rw [hM4]; rfl
      have W4 : RB a B L m d M4 (q + 1) := W3.cl m41 x34 (by omega)
      have I2 := S M4 (q + 1) W4 ⟨by omega, by omega⟩
      have ok2 := hok (q + 1) hl
      have x4 : EX (szM M) M M4 := by
        have : EX (szM M) M M3 := by rw [hM3]; exact x2.si (Or.inl rfl)
        exact this.tr x34 (by omega)
      have k4 : RK M M4 := by
        have : RK M M3 := by rw [hM3]; exact k2.mv
        exact this.tr (RK.eq m41)
      have sz3 : (hp a M3).2.1 = szM M3 := rfl
      cases hpr2 : sumP B L m rsP d (q + 1) with
      | inl e =>
        rw [hpr2] at I2
        obtain ⟨M', j1, j2, j3, j4, j5⟩ := I2
        refine ⟨M', ?_, x4.tr j2 (by omega), j3, by omega, by omega⟩
        simp only [fX2_fact_148, r_g2, e22, bsm, nI_1, p3, al4, r_rcv, j1, tb]
      | inr e =>
        obtain ⟨p2, c2⟩ := e
        rw [hpr2] at I2 ok2
        obtain ⟨M5, r2, j1, j2, j3, j4, ⟨j5, j6⟩, j7⟩ := I2
        obtain ⟨⟨o3, o4, -⟩, -⟩ := ok2
        have ez5 : szM M4 ≤ szM M5 := j2.2.2.2.2.1
        have D5 : M5.2.2.2.1 (szM M3) = some (.inr (17, df17)) := by
          rw [j2.2.2.2.1 (szM M3) (by omega), hM4]
          exact A_s
        have p5 : pV (hp a M5) (some (szM M3)) 17 0 (va_rf (some r1)) = some (hp a (mD M5 (szM M3) (some (.inr (17, [.ref r1, .null, .int 0]))))) := d_pV hy3 D5 (by decide)
        have p6 : pV (hp a (mD M5 (szM M3) (some (.inr (17, [.ref r1, .null, .int 0]))))) (some (szM M3)) 17 2 (.int (nI c)) = some (hp a (mD (mD M5 (szM M3) (some (.inr (17, [.ref r1, .null, .int 0])))) (szM M3) (some (.inr (17, [.ref r1, .null, .int (nI c)]))))) := d_pV hy3 D_s (Nat.le_of_ble_eq_true rfl)
        rw [mD_mD] at p6
        have p7 : pV (hp a (mD M5 (szM M3) (some (.inr (17, [.ref r1, .null, .int (nI c)]))))) (some (szM M3)) 17 1 (va_rf (some r2)) = some (hp a (mD (mD M5 (szM M3) (some (.inr (17, [.ref r1, .null, .int (nI c)])))) (szM M3) (some (.inr (17, [.ref r1, .ref r2, .int (nI c)]))))) := d_pV hy3 D_s (Nat.le_of_ble_eq_true rfl)
        rw [mD_mD] at p7
        obtain ⟨M6, hM6⟩ : ∃ M6, M6 = mD M5 (szM M3) (some (.inr (17, [.ref r1, .ref r2, .int (nI c)]))) := ⟨_, rfl⟩
        rw [← hM6] at p7
        have m61 : M6.1 = M5.1 := by rw [hM6]; rfl
        have s6 : szM M6 = szM M5 := by rw [hM6]; rfl
        have t6 : slM M6 = slM M5 := by rw [hM6]; rfl
        have D6 : ∀ y, y ≠ szM M3 → M6.2.2.2.1 y = M5.2.2.2.1 y := fun y hy => by rw [hM6, D_n hy]
        have x56 : EX (szM M3) M5 M6 := by
          rw [hM6]
          exact ((FX.refl (fun y => y = szM M3) M5).mD (fun _ => rfl)).ex (fun y q => by omega) (by omega)
        refine ⟨M6, szM M3, ?_, x4.tr ((j2.wk (show szM M3 ≤ szM M4 by omega)).tr x56 (Nat.le_refl _)) (by omega), ⟨j3.1.to (by rw [m61]), j3.2.1, j3.2.2.1, by rw [m61]; exact j3.2.2.2.1, by rw [m61]; exact j3.2.2.2.2⟩, k4.tr (j4.tr (RK.eq m61)), ⟨by omega, by omega⟩, ?_⟩
        · simp only [fX2_fact_148, r_g2, e22, bsm, nI_1, p3, al4, r_rcv, j1, tb, fX20_init, fX16_init, sz3, p5, p6, p7]
        · have T1 : TrK (3 * (6 - d) + 3) K a (szM M) (szM M6) M6.2.2.2.1 r1 c1 := i7.to (Nat.le_refl _) (by omega) (fun y h1 h2 => by rw [D6 y (by omega), j2.2.2.2.1 y (by omega), hM4, A_n (by show y ≠ szM M3; omega), D3, D2]) (Nat.le_refl _)
          have T2 : TrK (3 * (6 - d) + 3) K a (szM M) (szM M6) M6.2.2.2.1 r2 c2 := j7.to (by omega) (by omega) (fun y h1 h2 => D6 y (by omega)) (Nat.le_refl _)
          exact te_than hc hy3 (by rw [hM6]; exact D_s) T1 T2 (by omega) (by omega) (by omega)
    have st : thF K (a + 9) rsC (hp a M) = if chI B L q = (60 : Int32) then fX2_fact_148 K (a + 9) rsC (hp a M2) (some r1) (chI B L q) else if chI B L q = (62 : Int32) then fX2_fact_148 K (a + 9) rsC (hp a M2) (some r1) (chI B L q) else if chI B L q = (61 : Int32) then fX2_fact_148 K (a + 9) rsC (hp a M2) (some r1) (chI B L q) else some (hp a (wr M2 1 (nI q)), .inl (a + 10)) := by
      simp only [thF, i1, bsm, tb, r_rcv, hh, r_g2, e22, wrong_o, f_rcv]
    rw [st]
    simp only [c60, c62, c61]
    by_cases z : SI B L q 60
    · rw [if_pos z, if_pos z, chE 60 z]
      exact go 60 (Or.inl rfl) z.1
    rw [if_neg z, if_neg z]
    by_cases z : SI B L q 62
    · rw [if_pos z, if_pos z, chE 62 z]
      exact go 62 (Or.inr (Or.inl rfl)) z.1
    rw [if_neg z, if_neg z]
    by_cases z : SI B L q 61
    · rw [if_pos z, if_pos z, chE 61 z]
      exact go 61 (Or.inr (Or.inr rfl)) z.1
    rw [if_neg z, if_neg z]
    have sw : szM (wr M2 1 (nI q)) = szM M2 := rfl
    have tw : slM (wr M2 1 (nI q)) = slM M2 := rfl
    exact ⟨wr M2 1 (nI q), rfl, x2.wr, ⟨by rw [wr, mI_n (by omega)]; exact mI_s, mI_s⟩, by omega, by omega⟩
theorem atomP_sk : atomP B L m rsP d (sk B L p) = atomP B L m rsP d p := by
  unfold atomP
  rw [sk_sk, nu_sk, withinP_sk]
theorem prodP_sk : prodP B L m rsP d (sk B L p) = prodP B L m rsP d p := by
  unfold prodP
  rw [atomP_sk]
theorem sumP_sk : sumP B L m rsP d (sk B L p) = sumP B L m rsP d p := by
  unfold sumP
  rw [prodP_sk]
theorem thanP_sk : thanP B L m rsP d (sk B L p) = thanP B L m rsP d p := by
  unfold thanP
  rw [sumP_sk]
end PTC

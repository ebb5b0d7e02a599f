/-! PARSER, products and sums at the component -/
set_option maxRecDepth 100000
/-- a product, a sum -/
def chF (K : KE) (a0 : Nat) (one : HS → Nat → CRes) (x y : Int32) (h : HS) : CRes :=
  (alc K h (.inr (9, df9)) 2).bind fun h1 =>
  (fX11_init K h1 h.2.1).bind fun x2 =>
  (rcv K x2 (some a0) 2).bind fun b3 =>
  (one x2 b3).bind fun x4 =>
  tb x4 (fun q5 => some (x4.1, .inl q5)) fun v6 =>
  (rcv K x4.1 (some h.2.1) 9).bind fun b8 =>
  (fX11_add K x4.1 b8 x v6).bind fun x9 =>
  lpC K a0 one x y FU x9 (some h.2.1) (1 : Int32)
section PLC
variable {K : KE} {a i n k p q L m d dd c s t u v w ce se x y kk cnt p' p1 : Nat} {M M' M1 M2 : CM} {B : Nat → Nat} {cs c1 : List Nat} {rsC : Nat → HS → Nat → CRes} {rsP : Nat → Nat → Nat → PRes} {res : CRes} {pr : PRes} {one : HS → Nat → CRes} {oneP : Nat → PRes}
theorem prod_chF (a0 : Nat) (h : HS) : fX2_product K h rsC a0 = chF K a0 (fun h b => fX2_atom K h rsC b) 42 47 h := by
  simp only [fX2_product, chF, prod_lpC]
theorem sum_chF (a0 : Nat) (h : HS) : fX2_sum K h rsC a0 = chF K a0 (fun h b => fX2_product K h rsC b) 43 45 h := by
  simp only [fX2_sum, chF, sum_lpC]
theorem okC.tr (h : okC K a B L d s M1 p1 res pr) (e : EX s M M1) (r : RK M M1) (b1 : szM M1 + 400 * (L - p1) ≤ szM M + 400 * (L - p)) (b2 : slM M1 + 4000 * (L - p1) ≤ slM M + 4000 * (L - p)) : okC K a B L d s M p res pr := by
  rcases pr with z | ⟨p', cs⟩
  · obtain ⟨M', h1, h2, h3, h4, h5⟩ := h
    exact ⟨M', h1, e.tr h2 (Nat.le_refl _), h3, by omega, by omega⟩
  · obtain ⟨M', n, h1, h2, h3, h4, ⟨h5, h6⟩, h7⟩ := h
    exact ⟨M', n, h1, e.tr h2 (Nat.le_refl _), h3, r.tr h4, ⟨by omega, by omega⟩, h7⟩
theorem lpC_o (hx : sgn x) (hy : sgn y) (kx : sgc x = kk) (ky : sgc y = kk + 1) (hsb : a + 1352 ≤ s) (hce : ce ≤ 50 ∧ se ≤ 50)
    (hone : ∀ M p, RB a B L m d M p → RO K B L 0 ce se M p → okR a B L (TrK dd K a) 0 ce se 0 M p (one (hp a M) (a + 9)) (oneP p))
    (hok : ∀ p, p ≤ L → okP B L m p (oneP p)) :
    ∀ (n p : Nat) (M : CM) (fu cnt : Nat) (cs : List Nat), L - p ≤ n → n + 1 < fu → RB a B L m d M p → RO K B L 0 0 0 M p → ChO K a dd s (szM M) M.2.2.2.1 cnt cs → 1 ≤ cnt → 2 * cnt ≤ p + 1 →
      okC K a B L dd s M p (lpC K (a + 9) one (nI x) (nI y) fu (hp a M) (some s) 1) (chainP B L oneP x y kk n p cs) := by
  have hx256 : x < 256 := by unfold sgn at hx; omega
  have hy256 : y < 256 := by unfold sgn at hy; omega
  -- the end
  have fin : ∀ (p : Nat) (M : CM) (fu cnt : Nat) (cs : List Nat), RB a B L m d M p → ChO K a dd s (szM M) M.2.2.2.1 cnt cs → 1 ≤ cnt → 2 * cnt ≤ p + 1 → ¬ SI B L (sk B L p) x → ¬ SI B L (sk B L p) y → okC K a B L dd s M p (lpC K (a + 9) one (nI x) (nI y) (fu + 1 + 1) (hp a M) (some s) 1) (.inr (sk B L p, cs)) := by
    intro p M fu cnt cs W C hc hc2 nx ny
    have R0 := W.1
    have hL := R0.2.1
    have hp' := R0.2.2.1
    have ql := @sk_le p L B hp'
    have qg := @sk_ge p L B
    have tk1 := takesC (K := K) (a := a) (c := x) R0 hx256
    rw [if_neg nx] at tk1
    have R1 := R0.mv ql
    have tk2 := takesC (K := K) (a := a) (c := y) R1 hy256
    rw [sk_sk, if_neg ny, mI_mI] at tk2
    have s1 : szM (mI M 9 2 (nI (sk B L p))) = szM M := rfl
    have t1 : slM (mI M 9 2 (nI (sk B L p))) = slM M := rfl
    refine ⟨mI M 9 2 (nI (sk B L p)), cnt, ?_, (EX.refl M).si (Or.inl rfl), R1, (RK.eq rfl : RK M M).mv, ⟨by omega, by omega⟩, C, hc, by omega⟩
    simp only [lpC, if_neg n01, r_rcv, bsm, tk1, if_true, tk2]
  intro n
  induction n with
  | zero =>
    intro p M fu cnt cs h1 h2 W R C hc hc2
    obtain ⟨fu, rfl⟩ : ∃ n, fu = n + 1 + 1 := ⟨fu - 2, by omega⟩
    have hp' := W.1.2.2.1
    have e : sk B L p = p := sk_n (by omega)
    have := fin p M fu cnt cs W C hc hc2 (by rw [e]; exact fun z => by have := z.1; omega) (by rw [e]; exact fun z => by have := z.1; omega)
    rw [e] at this
    exact this
  | succ n ih =>
    intro p M fu cnt cs h1 h2 W R C hc hc2
    obtain ⟨fu, rfl⟩ : ∃ n, fu = n + 1 + 1 := ⟨fu - 2, by omega⟩
    have R0 := W.1
    have hL := R0.2.1
    have hp' := R0.2.2.1
    have ql := @sk_le p L B hp'
    have qg := @sk_ge p L B
    have hzM : s + 5 ≤ szM M := by
      obtain ⟨_, _, _, _, _, _, _, ⟨_, _, z⟩, _⟩ := C
      exact z
    obtain ⟨R1, R2⟩ := R
    have step : ∀ c, sgn c → sk B L p < L → (lpC K (a + 9) one (nI x) (nI y) (fu + 1 + 1) (hp a M) (some s) 1 = (one (hp a (mI M 9 2 (nI (sk B L p + 1)))) (a + 9)).bind fun x16 => tb x16 (fun q17 => some (x16.1, .inl q17)) fun v18 => (rcv K x16.1 (some s) 9).bind fun b20 => (fX11_add K x16.1 b20 (nI c) v18).bind fun x21 => lpC K (a + 9) one (nI x) (nI y) (fu + 1) x21 (some s) 1) → okC K a B L dd s M p (lpC K (a + 9) one (nI x) (nI y) (fu + 1 + 1) (hp a M) (some s) 1) (pb (oneP (sk B L p + 1)) fun p1 c1 => chainP B L oneP x y kk n p1 (cs ++ c1 ++ [sgc c])) := by
      intro c hcs hl eq
      obtain ⟨M1, hM1⟩ : ∃ M1, M1 = mI M 9 2 (nI (sk B L p + 1)) := ⟨_, rfl⟩
      rw [← hM1] at eq
      have W1 : RB a B L m d M1 (sk B L p + 1) := by rw [hM1]; exact W.mv hl
      have s1 : szM M1 = szM M := by rw [hM1]; rfl
      have t1 : slM M1 = slM M := by rw [hM1]; rfl
      have D1 : M1.2.2.2.1 = M.2.2.2.1 := by rw [hM1]; rfl
      have x1 : EX s M M1 := by rw [hM1]; exact (EX.refl M).si (Or.inl rfl)
      have k1 : RK M M1 := by rw [hM1]; exact (RK.eq rfl : RK M M).mv
      have I := hone M1 (sk B L p + 1) W1 ⟨by omega, by omega⟩
      have ok := hok (sk B L p + 1) hl
      rw [eq]
      cases hpr : oneP (sk B L p + 1) with
      | inl e =>
        rw [hpr] at I
        obtain ⟨M', i1, i2, i3, i4, i5⟩ := I
        exact ⟨M', by rw [i1, bsm]; rfl, x1.tr i2 (by omega), i3, by omega, by omega⟩
      | inr e =>
        obtain ⟨p1, c1⟩ := e
        rw [hpr] at I ok
        obtain ⟨M2, r, i1, i2, i3, i4, ⟨i5, i6⟩, i7⟩ := I
        obtain ⟨⟨o1, o2, -⟩, -⟩ := ok
        have ez2 : szM M1 ≤ szM M2 := i2.2.2.2.2.1
        have C2 : ChO K a dd s (szM M) M2.2.2.2.1 cnt cs := C.to (fun y h1 h2 => by rw [i2.2.2.2.1 y (by omega), D1])
        obtain ⟨M3, a3, C3, m3, x3, s3, t3⟩ := chAdd (K := K) (c := c) C2 (show szM M ≤ szM M1 by omega) (Nat.le_refl _) i7 hsb hcs (by omega) (by omega) (by omega)
        rw [if_neg (by omega)] at C3
        have W3 : RB a B L m d M3 p1 := (W1.nx i2 i4 i3).cl m3 x3 (by omega)
        have J := ih p1 M3 (fu + 1) (cnt + 1) (cs ++ c1 ++ [sgc c]) (by omega) (by omega) W3 ⟨by omega, by omega⟩ C3 (by omega) (by omega)
        have e3 : (one (hp a M1) (a + 9)).bind (fun x16 => tb x16 (fun q17 => some (x16.1, .inl q17)) fun v18 => (rcv K x16.1 (some s) 9).bind fun b20 => (fX11_add K x16.1 b20 (nI c) v18).bind fun x21 => lpC K (a + 9) one (nI x) (nI y) (fu + 1) x21 (some s) 1) = lpC K (a + 9) one (nI x) (nI y) (fu + 1) (hp a M3) (some s) 1 := by
          rw [i1, bsm]
          simp only [tb, C2.rc (K := K), bsm, a3]
        rw [e3]
        exact J.tr (x1.tr ((i2.wk (show s ≤ szM M1 by omega)).tr x3 (Nat.le_refl _)) (Nat.le_refl _)) (k1.tr (i4.tr (RK.eq m3))) (by omega) (by omega)
    have tk1 := takesC (K := K) (a := a) (c := x) R0 hx256
    rw [chainP]
    by_cases z : SI B L (sk B L p) x
    · rw [if_pos z] at tk1 ⊢
      rw [← kx]
      have tk1' : fX2_takes K (hp a M) (a + 9) (nI x) = some (hp a (mI M 9 2 (nI (sk B L p + 1))), 1) := tk1
      have := step x hx z.1 (by simp only [lpC, if_neg n01, r_rcv, bsm, tk1'])
      rw [kx] at this ⊢
      exact this
    · rw [if_neg z] at tk1 ⊢
      by_cases z2 : SI B L (sk B L p) y
      · rw [if_pos z2]
        have tk2 := takesC (K := K) (a := a) (c := y) (R0.mv ql) hy256
        rw [sk_sk, if_pos z2, mI_mI] at tk2
        have := step y hy z2.1 (by simp only [lpC, if_neg n01, r_rcv, bsm, tk1, if_true, tk2])
        rw [ky] at this
        exact this
      · rw [if_neg z2]
        exact fin p M fu cnt cs W C hc hc2 z z2
/-- a chain from its beginning -/
theorem chFC (hx : sgn x) (hy : sgn y) (kx : sgc x = kk) (ky : sgc y = kk + 1) (hce : ce ≤ 50 ∧ se ≤ 50)
    (hone : ∀ M p, RB a B L m d M p → RO K B L 200 ce se M p → okR a B L (TrK dd K a) 200 ce se 0 M p (one (hp a M) (a + 9)) (oneP p))
    (hok : ∀ p, p ≤ L → okP B L m p (oneP p)) (W : RB a B L m d M p) (R : RO K B L 200 (ce + 7) (se + 31) M p) :
    okR a B L (TrK (dd + 1) K a) 200 (ce + 7) (se + 31) 0 M p (chF K (a + 9) one (nI x) (nI y) (hp a M)) (pb (oneP p) fun p1 c1 => chainP B L oneP x y kk (L - p1) p1 c1) := by
  have R0 := W.1
  have hL := R0.2.1
  have hp' := R0.2.2.1
  have hz := W.2.1
  have wl := @wn_le p L B hp'
  obtain ⟨R1, R2⟩ := R
  obtain ⟨Ma, M1, a1, a2, C1, m1, x1, s1, t1⟩ := chNew (K := K) (M := M) (d := dd) hz (by omega) (by omega)
  have W1 : RB a B L m d M1 p := W.cl m1 x1 (by omega)
  have I := hone M1 p W1 ⟨by omega, by omega⟩
  have ok := hok p hp'
  have sz0 : (hp a M).2.1 = szM M := rfl
  cases hpr : oneP p with
  | inl e =>
    rw [hpr] at I
    obtain ⟨M', i1, i2, i3, i4, i5⟩ := I
    refine ⟨M', ?_, x1.tr i2 (by omega), i3, by omega, by omega⟩
    simp only [chF, a1, bsm, sz0, a2, r_rcv, i1, tb]
  | inr e =>
    obtain ⟨p1, c1⟩ := e
    rw [hpr] at I ok
    obtain ⟨M2, r, i1, i2, i3, i4, ⟨i5, i6⟩, i7⟩ := I
    obtain ⟨⟨o1, o2, -⟩, -⟩ := ok
    have ez2 : szM M1 ≤ szM M2 := i2.2.2.2.2.1
    have C2 : ChO K a dd (szM M) (szM M1) M2.2.2.2.1 0 [] := C1.to (fun y h1 h2 => i2.2.2.2.1 y (by omega))
    obtain ⟨M3, a3, C3, m3, x3, s3, t3⟩ := chAdd (K := K) (c := x) C2 (Nat.le_refl _) (Nat.le_refl _) i7 (by omega) hx (by omega) (by omega) (by omega)
    rw [if_pos rfl] at C3
    have W3 : RB a B L m d M3 p1 := (W1.nx i2 i4 i3).cl m3 x3 (by omega)
    have J := lpC_o (K := K) (s := szM M) hx hy kx ky (by omega) hce (fun M p W R => (hone M p W ⟨by have := R.1; omega, by have := R.2; omega⟩).w0) hok (L - p1) p1 M3 FU 1 c1 (Nat.le_refl _) (FU_lt (by omega)) W3 ⟨by omega, by omega⟩ C3 (by omega) (by omega)
    have st : chF K (a + 9) one (nI x) (nI y) (hp a M) = lpC K (a + 9) one (nI x) (nI y) FU (hp a M3) (some (szM M)) 1 := by
      simp only [chF, a1, bsm, sz0, a2, r_rcv, i1, tb, C2.rc (K := K), a3]
    rw [st]
    have x13 : EX (szM M) M M3 := x1.tr ((i2.wk (show szM M ≤ szM M1 by omega)).tr x3 (Nat.le_refl _)) (Nat.le_refl _)
    have k13 : RK M M3 := (RK.eq m1).tr (i4.tr (RK.eq m3))
    show okR a B L (TrK (dd + 1) K a) 200 (ce + 7) (se + 31) 0 M p _ (chainP B L oneP x y kk (L - p1) p1 c1)
    cases hpr2 : chainP B L oneP x y kk (L - p1) p1 c1 with
    | inl e =>
      rw [hpr2] at J
      obtain ⟨M', j1, j2, j3, j4, j5⟩ := J
      exact ⟨M', j1, x13.tr j2 (Nat.le_refl _), j3, by omega, by omega⟩
    | inr e =>
      obtain ⟨p2, c2⟩ := e
      rw [hpr2] at J
      obtain ⟨M', n, j1, j2, j3, j4, ⟨j5, j6⟩, j7, j8, j9⟩ := J
      exact ⟨M', szM M, j1, x13.tr j2 (Nat.le_refl _), j3, k13.tr j4, ⟨by omega, by omega⟩, j7.tr j8 j9⟩
/-- what a level below gives -/
def IHs (K : KE) (a : Nat) (B : Nat → Nat) (L m d : Nat) (rsC : Nat → HS → Nat → CRes) (rsP : Nat → Nat → Nat → PRes) : Prop := d ≠ 6 → ∀ M p, RB a B L m (d + 1) M p →
  (RO K B L 200 14 62 M p → okR a B L (TrK (3 * (6 - (d + 1)) + 3) K a) 200 14 62 0 M p (rsC 0 (hp a M) (a + 9)) (rsP 0 (d + 1) p)) ∧
  (RO K B L 200 0 0 M p → okR a B L (TrK (3 * (6 - (d + 1)) + 1) K a) 200 0 0 0 M p (rsC 1 (hp a M) (a + 9)) (rsP 1 (d + 1) p)) ∧
  (RO K B L 100 22 80 M p → okR a B L (TeK (2 * (6 - (d + 1)) + 3) K a) 100 22 80 12 M p (rsC 2 (hp a M) (a + 9)) (rsP 2 (d + 1) p)) ∧
  (RO K B L 100 14 62 M p → okR a B L (TeK (2 * (6 - (d + 1)) + 1) K a) 100 14 62 0 M p (rsC 3 (hp a M) (a + 9)) (rsP 3 (d + 1) p))
theorem atomC2 (C : CW K a) (hm : m < 4) (hd : d ≤ 6) (I : IHs K a B L m d rsC rsP) (hok : d ≠ 6 → ∀ t p, p ≤ L → okP B L m p (rsP t (d + 1) p)) : ∀ M p, RB a B L m d M p → RO K B L 200 0 0 M p → okR a B L (TrK (3 * (6 - d) + 1) K a) 200 0 0 0 M p (fX2_atom K (hp a M) rsC (a + 9)) (atomP B L m rsP d p) := fun M p W R =>
  atomC C hm W hd (fun h M p W => (I h M p W).1) (fun h M p W => (I h M p W).2.1) hok R
theorem prodC (C : CW K a) (hm : m < 4) (hd : d ≤ 6) (I : IHs K a B L m d rsC rsP) (hok : d ≠ 6 → ∀ t p, p ≤ L → okP B L m p (rsP t (d + 1) p)) : ∀ M p, RB a B L m d M p → RO K B L 200 7 31 M p → okR a B L (TrK (3 * (6 - d) + 2) K a) 200 7 31 0 M p (fX2_product K (hp a M) rsC (a + 9)) (prodP B L m rsP d p) := fun M p W R => by
  rw [prod_chF]
  exact chFC (kk := 3) (x := 42) (y := 47) (Or.inr (Or.inr (Or.inl rfl))) (Or.inr (Or.inr (Or.inr rfl))) rfl rfl (by omega) (atomC2 C hm hd I hok) (fun p hp => atom_ok hp hok) W R
theorem sumC (C : CW K a) (hm : m < 4) (hd : d ≤ 6) (I : IHs K a B L m d rsC rsP) (hok : d ≠ 6 → ∀ t p, p ≤ L → okP B L m p (rsP t (d + 1) p)) : ∀ M p, RB a B L m d M p → RO K B L 200 14 62 M p → okR a B L (TrK (3 * (6 - d) + 3) K a) 200 14 62 0 M p (fX2_sum K (hp a M) rsC (a + 9)) (sumP B L m rsP d p) := fun M p W R => by
  rw [sum_chF]
  exact chFC (kk := 1) (x := 43) (y := 45) (Or.inl rfl) (Or.inr (Or.inl rfl)) rfl rfl (by omega) (prodC C hm hd I hok) (fun p hp => prod_ok hp hok) W R
end PLC

/-! PARSER, sums at the component -/
set_option maxRecDepth 100000
def cxN (m : Nat) : Nat := if m = 0 then 7 else if m = 1 then 3 else if m = 2 then 57 else 249
/-- the program's texts that sums and tests are told by -/
def CW (K : KE) (a : Nat) : Prop := CA K a 0 askL ∧ CA K a 1 [wdL 85] ∧ CT K a 26 (wdL 81) ∧ CT K a 27 (wdL 82) ∧ CT K a 28 (wdL 79) ∧ CT K a 29 (wdL 78) ∧ CT K a 30 (wdL 77) ∧ CT K a 31 (wdL 80)
/-- the Reader at p, d open, mode m -/
def RB (a : Nat) (B : Nat → Nat) (L m d : Nat) (M : CM) (p : Nat) : Prop := RD M B L p ∧ a + 1352 ≤ szM M ∧ (∀ y, y < a → M.2.2.2.1 y = none) ∧ M.1 9 4 = nI d ∧ M.1 9 5 = nI (cxN m)
/-- room from p on -/
def RO (K : KE) (B : Nat → Nat) (L u c s : Nat) (M : CM) (p : Nat) : Prop := szM M + 400 * (L - p) + c ≤ K.2.2.1 + u * wn B L p ∧ slM M + 4000 * (L - p) + s ≤ K.2.2.2 + u * wn B L p
abbrev CRes := Option (HS × (Nat ⊕ Option Nat))
/-- the component's answer res against the pure one pr -/
def okR (a : Nat) (B : Nat → Nat) (L : Nat) (T : Nat → Nat → (Nat → Option HE) → Nat → List Nat → Prop) (u c s v : Nat) (M : CM) (p : Nat) (res : CRes) (pr : PRes) : Prop := match pr with
  | .inl e => ∃ M', res = some (hp a M', .inl (a + 10)) ∧ EX (szM M) M M' ∧ (M'.1 10 6 = nI e.1 ∧ M'.1 10 7 = nI e.2) ∧ (szM M' + u * wn B L p ≤ szM M + 400 * (L - p) + c ∧ slM M' + u * wn B L p ≤ slM M + 4000 * (L - p) + s)
  | .inr (p', cs) => ∃ M' r, res = some (hp a M', .inr (some r)) ∧ EX (szM M) M M' ∧ RD M' B L p' ∧ RK M M' ∧ (szM M' + 400 * (L - p') + u * wn B L p ≤ szM M + 400 * (L - p) + c + v * wn B L p' ∧ slM M' + 4000 * (L - p') + u * wn B L p ≤ slM M + 4000 * (L - p) + s + v * wn B L p') ∧ T (szM M) (szM M') M'.2.2.2.1 r cs
/-- the loop of sums and of products -/
def lpC (K : KE) (a0 : Nat) (one : HS → Nat → CRes) (x y : Int32) : Nat → HS → Option Nat → Int32 → CRes
  | 0, _, _, _ => none
  | n + 1, h, a1, a2 =>
    if a2 = 0 then
      some (h, .inr a1)
    else
    (rcv K h (some a0) 2).bind fun b2 =>
    (fX2_takes K h b2 x).bind fun x3 =>
    if x3.2 = 0 then
      (rcv K x3.1 (some a0) 2).bind fun b5 =>
      (fX2_takes K x3.1 b5 y).bind fun x6 =>
      if x6.2 = 0 then
        lpC K a0 one x y n x6.1 a1 (0 : Int32)
      else
      (rcv K x6.1 (some a0) 2).bind fun b8 =>
      (one x6.1 b8).bind fun x9 =>
      tb x9 (fun q10 => some (x9.1, .inl q10)) fun v11 =>
      (rcv K x9.1 a1 9).bind fun b13 =>
      (fX11_add K x9.1 b13 y v11).bind fun x14 =>
      lpC K a0 one x y n x14 a1 a2
    else
    (rcv K x3.1 (some a0) 2).bind fun b15 =>
    (one x3.1 b15).bind fun x16 =>
    tb x16 (fun q17 => some (x16.1, .inl q17)) fun v18 =>
    (rcv K x16.1 a1 9).bind fun b20 =>
    (fX11_add K x16.1 b20 x v18).bind fun x21 =>
    lpC K a0 one x y n x21 a1 a2
/-- the loop's answer -/
def okC (K : KE) (a : Nat) (B : Nat → Nat) (L d s : Nat) (M : CM) (p : Nat) (res : CRes) (pr : PRes) : Prop := match pr with
  | .inl e => ∃ M', res = some (hp a M', .inl (a + 10)) ∧ EX s M M' ∧ (M'.1 10 6 = nI e.1 ∧ M'.1 10 7 = nI e.2) ∧ (szM M' ≤ szM M + 400 * (L - p) ∧ slM M' ≤ slM M + 4000 * (L - p))
  | .inr (p', cs) => ∃ M' n, res = some (hp a M', .inr (some s)) ∧ EX s M M' ∧ RD M' B L p' ∧ RK M M' ∧ (szM M' + 400 * (L - p') ≤ szM M + 400 * (L - p) ∧ slM M' + 4000 * (L - p') ≤ slM M + 4000 * (L - p)) ∧ ChO K a d s (szM M') M'.2.2.2.1 n cs ∧ 1 ≤ n ∧ n ≤ 2000
section PSC
variable {K : KE} {a i n k p q L m d c s t u v w lo hi ce se x y kk cnt p' : Nat} {M M' M1 M2 : CM} {B : Nat → Nat} {cs c1 : List Nat} {rsC : Nat → HS → Nat → CRes} {rsP : Nat → Nat → Nat → PRes} {T : Nat → Nat → (Nat → Option HE) → Nat → List Nat → Prop} {res : CRes} {pr : PRes} {one : HS → Nat → CRes} {oneP : Nat → PRes}
theorem wn_le (h : p ≤ L) : wn B L p ≤ L - p := by
  have h1 := @sk_ge p L B
  have h2 := @sk_le p L B h
  have h3 := @we_le (sk B L p) L B h2
  show we B L (sk B L p) - sk B L p ≤ _
  omega
theorem wn_0 (h : ¬ LEa B L (sk B L p)) : wn B L p = 0 := by
  show we B L (sk B L p) - sk B L p = 0
  rw [we_n h]
  omega
theorem wn_1 (h : LEa B L (sk B L p)) : 1 ≤ wn B L p := by
  have := @we_gt (sk B L p) L B h
  show 1 ≤ we B L (sk B L p) - sk B L p
  omega
theorem wn_e : wn B L p + sk B L p = we B L (sk B L p) := by
  have := @we_ge (sk B L p) L B
  show we B L (sk B L p) - sk B L p + sk B L p = _
  omega
theorem wn_sk : wn B L (sk B L p) = wn B L p := by
  show we B L (sk B L (sk B L p)) - sk B L (sk B L p) = we B L (sk B L p) - sk B L p
  rw [sk_sk]
theorem prod_lpC (a0 : Nat) : ∀ n h a1 a2, fX2_product_20 K a0 rsC n h a1 a2 = lpC K a0 (fun h b => fX2_atom K h rsC b) 42 47 n h a1 a2 := by
  intro n
  induction n with
  | zero => intros; rfl
  | succ n ih =>
    intro h a1 a2
    simp only [fX2_product_20, lpC, ih]
theorem sum_lpC (a0 : Nat) : ∀ n h a1 a2, fX2_sum_20 K a0 rsC n h a1 a2 = lpC K a0 (fun h b => fX2_product K h rsC b) 43 45 n h a1 a2 := by
  intro n
  induction n with
  | zero => intros; rfl
  | succ n ih =>
    intro h a1 a2
    simp only [fX2_sum_20, lpC, ih]
theorem EX.wk {s0 : Nat} (h : EX s M M1) (h0 : s0 ≤ s) : EX s0 M M1 := ⟨h.1, h.2.1, h.2.2.1, fun y hy => h.2.2.2.1 y (Nat.lt_of_lt_of_le hy h0), h.2.2.2.2⟩
theorem EX.wr {x y : Int32} (h : EX s M M1) : EX s M (wr M1 x y) := (h.si (Or.inr rfl)).si (Or.inr rfl)
theorem RB.nx (W : RB a B L m d M p) (e : EX (szM M) M M') (r : RK M M') (R : RD M' B L q) : RB a B L m d M' q := by
  obtain ⟨w1, w2, w3, w4, w5⟩ := W
  have e5 := e.2.2.2.2.1
  exact ⟨R, Nat.le_trans w2 e5, e.no (show a ≤ szM M by omega) w3, by rw [r 4 (by omega) (by omega)]; exact w4, by rw [r 5 (by omega) (by omega)]; exact w5⟩
/-- the place alone -/
theorem RB.mv (W : RB a B L m d M p) (h : q ≤ L) : RB a B L m d (mI M 9 2 (nI q)) q := by
  obtain ⟨w1, w2, w3, w4, w5⟩ := W
  exact ⟨w1.mv h, w2, w3, by rw [mI_n (by omega)]; exact w4, by rw [mI_n (by omega)]; exact w5⟩
theorem RB.op {d' : Nat} (W : RB a B L m d M p) : RB a B L m d' (mI M 9 4 (nI d')) p := by
  obtain ⟨w1, w2, w3, w4, w5⟩ := W
  exact ⟨⟨w1.1.to (mI_o (by omega)), w1.2.1, w1.2.2.1, by rw [mI_n (by omega)]; exact w1.2.2.2.1, by rw [mI_n (by omega)]; exact w1.2.2.2.2⟩, w2, w3, mI_s, by rw [mI_n (by omega)]; exact w5⟩
/-- cells alone have changed -/
theorem RB.cl (W : RB a B L m d M p) (e1 : M'.1 = M.1) (e : EX s M M') (hs : a ≤ s) : RB a B L m d M' p := by
  obtain ⟨w1, w2, w3, w4, w5⟩ := W
  have e5 := e.2.2.2.2.1
  exact ⟨⟨w1.1.to (by rw [e1]), w1.2.1, w1.2.2.1, by rw [e1]; exact w1.2.2.2.1, by rw [e1]; exact w1.2.2.2.2⟩, Nat.le_trans w2 e5, e.no hs w3, by rw [e1]; exact w4, by rw [e1]; exact w5⟩
theorem okR.w0 (h : okR a B L T u c s v M p res pr) : okR a B L T 0 c s v M p res pr := by
  rcases pr with e | ⟨p', cs⟩
  · obtain ⟨M', h1, h2, h3, h4, h5⟩ := h
    exact ⟨M', h1, h2, h3, by rw [Nat.zero_mul]; omega, by rw [Nat.zero_mul]; omega⟩
  · obtain ⟨M', r, h1, h2, h3, h4, ⟨h5, h6⟩, h7⟩ := h
    exact ⟨M', r, h1, h2, h3, h4, ⟨by rw [Nat.zero_mul]; omega, by rw [Nat.zero_mul]; omega⟩, h7⟩
theorem RK.tr (h : RK M M1) (g : RK M1 M2) : RK M M2 := fun k a b => (g k a b).trans (h k a b)
theorem RK.mv (h : RK M M1) : RK M (mI M1 9 2 (nI q)) := fun k a b => by rw [mI_n (by omega)]; exact h k a b
theorem RK.eq (h : M'.1 = M.1) : RK M M' := fun k _ _ => by rw [h]
theorem mustP_p {f : Nat → PRes} (h : SI B L (sk B L p) c) : mustP B L p c f = f (sk B L p + 1) := if_pos h
theorem mustP_n {f : Nat → PRes} (h : ¬ SI B L (sk B L p) c) : mustP B L p c f = .inl (1, sk B L p) := if_neg h
theorem withinP_sk : withinP B L rsP k d (sk B L p) = withinP B L rsP k d p := by
  unfold withinP
  rw [sk_sk]
theorem nu_sk : nu B L lo hi (sk B L p) = nu B L lo hi p := by
  unfold nu
  rw [sk_sk]
/-- in brackets -/
theorem withinC (Wb : RB a B L m d M p) (hd : d ≤ 6) (hk : k ≤ 2) (I0 : d ≠ 6 → ∀ M p, RB a B L m (d + 1) M p → RO K B L 200 14 62 M p → okR a B L (TrK (3 * (6 - (d + 1)) + 3) K a) 200 14 62 0 M p (rsC 0 (hp a M) (a + 9)) (rsP 0 (d + 1) p)) (hok : d ≠ 6 → ∀ t p, p ≤ L → okP B L m p (rsP t (d + 1) p)) (R : RO K B L 0 0 0 M p) :
    okR a B L (TrK (3 * (6 - d) + 1) K a) 0 0 0 0 M p (fX2_within K (hp a M) rsC (a + 9) (nI k)) (withinP B L rsP k d p) := by
  have R0 := Wb.1
  have hL := R0.2.1
  have hp' := R0.2.2.1
  have hh := R0.here (K := K) (a := a)
  have ce : (chI B L (sk B L p) = (40 : Int32)) = SI B L (sk B L p) 40 := ch_eq (c := 40) R0.lt hL (by omega)
  have ql := @sk_le p L B hp'
  have qg := @sk_ge p L B
  unfold withinP
  obtain ⟨q, hq⟩ : ∃ q, sk B L p = q := ⟨_, rfl⟩
  rw [hq] at hh ce ql qg ⊢
  obtain ⟨M1, hM1⟩ : ∃ M1, M1 = mI M 9 2 (nI q) := ⟨_, rfl⟩
  rw [← hM1] at hh
  have W1 : RB a B L m d M1 q := by rw [hM1]; exact Wb.mv ql
  have e12 := W1.1.2.2.2.2
  have x1 : EX (szM M) M M1 := by rw [hM1]; exact (EX.refl M).si (Or.inl rfl)
  have s1 : szM M1 = szM M := by rw [hM1]; rfl
  have t1 : slM M1 = slM M := by rw [hM1]; rfl
  obtain ⟨R1, R2⟩ := R
  by_cases z : SI B L q 40
  rotate_left
  · rw [if_neg z]
    have sw : szM (wr M1 1 (nI q)) = szM M1 := rfl
    have tw : slM (wr M1 1 (nI q)) = slM M1 := rfl
    refine ⟨wr M1 1 (nI q), ?_, x1.wr, ⟨by rw [wr, mI_n (by omega)]; exact mI_s, mI_s⟩, by omega, by omega⟩
    simp only [fX2_within, r_rcv, bsm, hh, ce, if_neg z, r_g2, e12, wrong_o, f_rcv]
  rw [if_pos z]
  have z1 := z.1
  have op := opensC (K := K) (a := a) (M := M1) (nI q) d hd W1.2.2.2.1
  unfold openP
  by_cases d6 : d = 6
  · rw [if_pos d6] at op ⊢
    have sw : szM (wr M1 4 (nI q)) = szM M1 := rfl
    have tw : slM (wr M1 4 (nI q)) = slM M1 := rfl
    refine ⟨wr M1 4 (nI q), ?_, x1.wr, ⟨by rw [wr, mI_n (by omega)]; exact mI_s, mI_s⟩, by omega, by omega⟩
    simp only [fX2_within, r_rcv, bsm, hh, ce, if_pos z, r_g2, e12, op, tb]
  rw [if_neg d6] at op ⊢
  obtain ⟨M2, hM2⟩ : ∃ M2, M2 = mI M1 9 4 (nI (d + 1)) := ⟨_, rfl⟩
  have W2 : RB a B L m (d + 1) M2 q := by rw [hM2]; exact W1.op
  rw [← hM2] at op
  have e22 := W2.1.2.2.2.2
  obtain ⟨M3, hM3⟩ : ∃ M3, M3 = mI M2 9 2 (nI (q + 1)) := ⟨_, rfl⟩
  have p3 : pV (hp a M2) (some (a + 9)) 2 2 (.int (nI (q + 1))) = some (hp a M3) := by rw [hM3]; exact r_p2
  have W3 : RB a B L m (d + 1) M3 (q + 1) := by rw [hM3]; exact W2.mv z1
  have x3 : EX (szM M) M M3 := by rw [hM3, hM2]; exact (x1.si (Or.inl rfl)).si (Or.inl rfl)
  have s3 : szM M3 = szM M := by rw [hM3, hM2, ← s1]; rfl
  have t3 : slM M3 = slM M := by rw [hM3, hM2, ← t1]; rfl
  have k3 : ∀ k, k ≠ 2 → k ≠ 3 → k ≠ 4 → M3.1 9 k = M.1 9 k := fun k h1 h2 h3 => by rw [hM3, hM2, hM1, mI_n (by omega), mI_n (by omega), mI_n (by omega)]
  have I := I0 d6 M3 (q + 1) W3 ⟨by omega, by omega⟩
  have ok1 := hok d6 0 (q + 1) z1
  have w3 := @wn_le (q + 1) L B z1
  have d4 : nI (d + 1) - 1 = nI d := by rw [nI_m1 (by omega)]; exact congrArg nI (by omega)
  -- the closing sign
  have close : ∀ (M4 : CM) (p1 : Nat) (r : Nat) (cs : List Nat), EX (szM M) M3 M4 → RK M3 M4 → RD M4 B L p1 → szM M4 + 400 * (L - p1) ≤ szM M + 400 * (L - p) → slM M4 + 4000 * (L - p1) ≤ slM M + 4000 * (L - p) → TrK (3 * (6 - d) + 1) K a (szM M) (szM M4) M4.2.2.2.1 r cs → okR a B L (TrK (3 * (6 - d) + 1) K a) 0 0 0 0 M p (fX2_within_77 K (a + 9) rsC (hp a M4) (some r)) (mustP B L p1 41 fun p2 => .inr (p2, cs)) := by
    intro M4 p1 r cs g1 g2 g3 g4 g5 g6
    have mu := mustC (K := K) (a := a) (c := 41) g3 (by omega)
    have sg := @sk_ge p1 L B
    by_cases y : SI B L (sk B L p1) 41
    · rw [if_pos y] at mu
      rw [mustP_p y]
      have y1 := y.1
      obtain ⟨M5, hM5⟩ : ∃ M5, M5 = mI M4 9 2 (nI (sk B L p1 + 1)) := ⟨_, rfl⟩
      rw [← hM5] at mu
      have m54 : M5.1 9 4 = nI (d + 1) := by rw [hM5, mI_n (by omega), g2 4 (by omega) (by omega)]; exact W3.2.2.2.1
      have R5 : RD M5 B L (sk B L p1 + 1) := by rw [hM5]; exact g3.mv y1
      have s6 : szM (mI M5 9 4 (nI d)) = szM M4 := by rw [hM5]; rfl
      have t6 : slM (mI M5 9 4 (nI d)) = slM M4 := by rw [hM5]; rfl
      refine ⟨mI M5 9 4 (nI d), r, ?_, ?_, ?_, ?_, ⟨by omega, by omega⟩, ?_⟩
      · rw [show nI 41 = (41 : Int32) from rfl] at mu
        simp only [fX2_within_77, r_rcv, bsm, mu, tb, r_g4, m54, d4, r_p4]
      · rw [hM5]
        exact ((x3.tr g1 (Nat.le_refl _)).si (Or.inl rfl)).si (Or.inl rfl)
      · exact ⟨R5.1.to (mI_o (by omega)), R5.2.1, R5.2.2.1, by rw [mI_n (by omega)]; exact R5.2.2.2.1, by rw [mI_n (by omega)]; exact R5.2.2.2.2⟩
      · intro k h1 h2
        by_cases h4 : k = 4
        · subst h4
          rw [mI_s]
          exact Wb.2.2.2.1.symm
        · rw [mI_n (by omega), hM5, mI_n (by omega), g2 k h1 h2, k3 k h1 h2 h4]
      · rw [s6]
        have : (mI M5 9 4 (nI d)).2.2.2.1 = M4.2.2.2.1 := by rw [hM5]; rfl
        rw [this]
        exact g6
    · rw [if_neg y] at mu
      rw [mustP_n y]
      have sw : szM (wr (mI M4 9 2 (nI (sk B L p1))) 1 (nI (sk B L p1))) = szM M4 := rfl
      have tw : slM (wr (mI M4 9 2 (nI (sk B L p1))) 1 (nI (sk B L p1))) = slM M4 := rfl
      refine ⟨wr (mI M4 9 2 (nI (sk B L p1))) 1 (nI (sk B L p1)), ?_, ((x3.tr g1 (Nat.le_refl _)).si (Or.inl rfl)).wr, ⟨by rw [wr, mI_n (by omega)]; exact mI_s, mI_s⟩, by omega, by omega⟩
      rw [show nI 41 = (41 : Int32) from rfl] at mu
      simp only [fX2_within_77, r_rcv, bsm, mu, tb]
  cases hpr : rsP 0 (d + 1) (q + 1) with
  | inl e =>
    rw [hpr] at I
    obtain ⟨M', i1, i2, i3, i4, i5⟩ := I
    refine ⟨M', ?_, x3.tr i2 (Nat.le_of_eq s3.symm), i3, by omega, by omega⟩
    simp only [fX2_within, r_rcv, bsm, hh, ce, if_pos z, r_g2, e12, op, tb, e22, nI_1, p3, i1]
  | inr e =>
    obtain ⟨p1, c1⟩ := e
    rw [hpr] at I ok1
    obtain ⟨M4, r1, i1, i2, i3, i4, ⟨i5, i6⟩, i7⟩ := I
    obtain ⟨o1, -⟩ := ok1
    rw [s3] at i2 i7
    have st : fX2_within K (hp a M) rsC (a + 9) (nI k) = if nI k ≤ 0 then fX2_within_77 K (a + 9) rsC (hp a M4) (some r1) else (fX2_must K (hp a M4) (a + 9) (44 : Int32)).bind fun x19 => tb x19 (fun q20 => some (x19.1, .inl q20)) fun v21 => (alc K x19.1 (.inr (10, df10)) 3).bind fun h23 => if nI k = (2 : Int32) then fX2_within_68 K (a + 9) rsC h23 (some r1) (some x19.1.2.1) (some x19.1.2.1) (1 : Int32) else fX2_within_68 K (a + 9) rsC h23 (some r1) (some x19.1.2.1) (some x19.1.2.1) (0 : Int32) := by
      simp only [fX2_within, r_rcv, bsm, hh, ce, if_pos z, r_g2, e12, op, tb, e22, nI_1, p3, i1]
    rw [st]
    simp only [nI_le0 (show k < 2 ^ 31 by omega)]
    by_cases k0 : k = 0
    · rw [if_pos k0]
      show okR a B L _ 0 0 0 0 M p _ (if k = 0 then mustP B L p1 41 fun p2 => .inr (p2, c1) else _)
      rw [if_pos k0]
      exact close M4 p1 r1 c1 i2 i4 i3 (by omega) (by omega) (i7.to (Nat.le_refl _) (Nat.le_refl _) (fun _ _ _ => rfl) (by omega))
    rw [if_neg k0]
    show okR a B L _ 0 0 0 0 M p _ (if k = 0 then _ else mustP B L p1 44 fun p2 => pb (rsP 0 (d + 1) p2) fun p3 c2 => mustP B L p3 41 fun p4 => .inr (p4, c1 ++ c2 ++ [k + 4]))
    rw [if_neg k0]
    have mu := mustC (K := K) (a := a) (c := 44) i3 (by omega)
    rw [show nI 44 = (44 : Int32) from rfl] at mu
    have sg1 := @sk_ge p1 L B
    by_cases y : SI B L (sk B L p1) 44
    rotate_left
    · rw [if_neg y] at mu
      rw [mustP_n y]
      have sw : szM (wr (mI M4 9 2 (nI (sk B L p1))) 1 (nI (sk B L p1))) = szM M4 := rfl
      have tw : slM (wr (mI M4 9 2 (nI (sk B L p1))) 1 (nI (sk B L p1))) = slM M4 := rfl
      refine ⟨wr (mI M4 9 2 (nI (sk B L p1))) 1 (nI (sk B L p1)), ?_, ((x3.tr i2 (Nat.le_refl _)).si (Or.inl rfl)).wr, ⟨by rw [wr, mI_n (by omega)]; exact mI_s, mI_s⟩, by omega, by omega⟩
      simp only [bsm, mu, tb]
    rw [if_pos y] at mu
    rw [mustP_p y]
    show okR a B L _ 0 0 0 0 M p _ (pb (rsP 0 (d + 1) (sk B L p1 + 1)) fun p3 c2 => mustP B L p3 41 fun p4 => .inr (p4, c1 ++ c2 ++ [k + 4]))
    have y1 := y.1
    have W4 : RB a B L m (d + 1) M4 p1 := W3.nx (by rw [s3]; exact i2) i4 i3
    obtain ⟨M5, hM5⟩ : ∃ M5, M5 = mI M4 9 2 (nI (sk B L p1 + 1)) := ⟨_, rfl⟩
    rw [← hM5] at mu
    have W5 : RB a B L m (d + 1) M5 (sk B L p1 + 1) := by rw [hM5]; exact W4.mv y1
    have s5 : szM M5 = szM M4 := by rw [hM5]; rfl
    have t5 : slM M5 = slM M4 := by rw [hM5]; rfl
    have D5 : M5.2.2.2.1 = M4.2.2.2.1 := by rw [hM5]; rfl
    have s4 := W4.2.1
    have ez : szM M3 ≤ szM M4 := i2.2.2.2.2.1
    have ez' : szM M ≤ szM M4 := by omega
    have hy5 : ¬ inB a (szM M5) := fun z => by have := z.2.1; omega
    obtain ⟨M6, hM6⟩ : ∃ M6, M6 = mA M5 (.inr (10, df10)) 3 := ⟨_, rfl⟩
    have al6 : alc K (hp a M5) (.inr (10, df10)) 3 = some (hp a M6) := by rw [hM6]; exact d_al hy5 (by omega) (by omega)
    have s6 : szM M6 = szM M5 + 1 := by rw [hM6]; rfl
    have t6 : slM M6 = slM M5 + 3 := by rw [hM6]; rfl
    have x56 : EX (szM M5) M5 M6 := by rw [hM6]; exact (((FX.refl (fun _ => False) M5).mA).ex (fun _ q => absurd q id) (Nat.le_refl _))
    have W6 : RB a B L m (d + 1) M6 (sk B L p1 + 1) := W5.cl (by rw [hM6]; rfl) x56 (by omega)
    have w6 := @wn_le (sk B L p1 + 1) L B y1
    have I2 := I0 d6 M6 (sk B L p1 + 1) W6 ⟨by omega, by omega⟩
    have ok2 := hok d6 0 (sk B L p1 + 1) y1
    have x45 : EX (szM M) M3 M5 := by rw [hM5]; exact i2.si (Or.inl rfl)
    have x6 : EX (szM M) M3 M6 := x45.tr x56 (by omega)
    have sz5 : (hp a M5).2.1 = szM M5 := rfl
    obtain ⟨j, hj, hj1⟩ : ∃ j, k = j + 1 ∧ j ≤ 1 := ⟨k - 1, by omega, by omega⟩
    have st2 : ((fX2_must K (hp a M4) (a + 9) (44 : Int32)).bind fun x19 => tb x19 (fun q20 => some (x19.1, .inl q20)) fun v21 => (alc K x19.1 (.inr (10, df10)) 3).bind fun h23 => if nI k = (2 : Int32) then fX2_within_68 K (a + 9) rsC h23 (some r1) (some x19.1.2.1) (some x19.1.2.1) (1 : Int32) else fX2_within_68 K (a + 9) rsC h23 (some r1) (some x19.1.2.1) (some x19.1.2.1) (0 : Int32)) = fX2_within_68 K (a + 9) rsC (hp a M6) (some r1) (some (szM M5)) (some (szM M5)) (nI j) := by
      rw [mu, bsm]
      simp only [tb, al6, bsm, sz5]
      have : j = 0 ∨ j = 1 := by omega
      rcases this with rfl | rfl
      · rw [hj, if_neg (by decide)]
        rfl
      · rw [hj, if_pos (by decide)]
        rfl
    rw [st2]
    cases hpr2 : rsP 0 (d + 1) (sk B L p1 + 1) with
    | inl e =>
      rw [hpr2] at I2
      obtain ⟨M', j1, j2, j3, j4, j5⟩ := I2
      refine ⟨M', ?_, x3.tr (x6.tr j2 (by omega)) (Nat.le_refl _), j3, by omega, by omega⟩
      simp only [fX2_within_68, r_rcv, bsm, j1, tb]
    | inr e =>
      obtain ⟨p3, c2⟩ := e
      rw [hpr2] at I2 ok2
      obtain ⟨M7, r2, j1, j2, j3, j4, ⟨j5, j6⟩, j7⟩ := I2
      obtain ⟨o2, -⟩ := ok2
      have ez7 : szM M6 ≤ szM M7 := j2.2.2.2.2.1
      have D7 : M7.2.2.2.1 (szM M5) = some (.inr (10, df10)) := by
        rw [j2.2.2.2.1 (szM M5) (by omega), hM6]
        exact A_s
      have p7 : pV (hp a M7) (some (szM M5)) 10 0 (.int (nI j)) = some (hp a (mD M7 (szM M5) (some (.inr (10, [.int (nI j), .null, .null]))))) := d_pV hy5 D7 (by decide)
      have p8 : pV (hp a (mD M7 (szM M5) (some (.inr (10, [.int (nI j), .null, .null]))))) (some (szM M5)) 10 1 (va_rf (some r1)) = some (hp a (mD (mD M7 (szM M5) (some (.inr (10, [.int (nI j), .null, .null])))) (szM M5) (some (.inr (10, [.int (nI j), .ref r1, .null]))))) := d_pV hy5 D_s (Nat.le_of_ble_eq_true rfl)
      rw [mD_mD] at p8
      have p9 : pV (hp a (mD M7 (szM M5) (some (.inr (10, [.int (nI j), .ref r1, .null]))))) (some (szM M5)) 10 2 (va_rf (some r2)) = some (hp a (mD (mD M7 (szM M5) (some (.inr (10, [.int (nI j), .ref r1, .null])))) (szM M5) (some (.inr (10, [.int (nI j), .ref r1, .ref r2]))))) := d_pV hy5 D_s (Nat.le_of_ble_eq_true rfl)
      rw [mD_mD] at p9
      obtain ⟨M8, hM8⟩ : ∃ M8, M8 = mD M7 (szM M5) (some (.inr (10, [.int (nI j), .ref r1, .ref r2]))) := ⟨_, rfl⟩
      rw [← hM8] at p9
      have s8 : szM M8 = szM M7 := by rw [hM8]; rfl
      have t8 : slM M8 = slM M7 := by rw [hM8]; rfl
      have m81 : M8.1 = M7.1 := by rw [hM8]; rfl
      have zz : zr (nI j) = some (nI j) := by
        have : j = 0 ∨ j = 1 := by omega
        rcases this with rfl | rfl <;> decide
      have st3 : fX2_within_68 K (a + 9) rsC (hp a M6) (some r1) (some (szM M5)) (some (szM M5)) (nI j) = fX2_within_77 K (a + 9) rsC (hp a M8) (some (szM M5)) := by
        simp only [fX2_within_68, r_rcv, bsm, j1, tb, fX12_init, fX10_init, zz, p7, p8, p9]
      rw [st3]
      have x78 : EX (szM M5) M7 M8 := by
        rw [hM8]
        exact ((FX.refl (fun y => y = szM M5) M7).mD (fun _ => rfl)).ex (fun y q => by omega) (by omega)
      have R8 : RD M8 B L p3 := ⟨j3.1.to (by rw [m81]), j3.2.1, j3.2.2.1, by rw [m81]; exact j3.2.2.2.1, by rw [m81]; exact j3.2.2.2.2⟩
      have D8 : ∀ y, y ≠ szM M5 → M8.2.2.2.1 y = M7.2.2.2.1 y := fun y hy => by rw [hM8, D_n hy]
      have k8 : RK M3 M8 := by
        have a1 : RK M3 M5 := by rw [hM5]; exact i4.mv
        have a2 : RK M5 M6 := RK.eq (by rw [hM6]; rfl)
        exact ((a1.tr a2).tr j4).tr (RK.eq m81)
      have tr1 : TrK (3 * (6 - (d + 1)) + 3) K a (szM M) (szM M8) M8.2.2.2.1 r1 c1 := i7.to (Nat.le_refl _) (by omega) (fun y h1 h2 => by rw [D8 y (by omega), j2.2.2.2.1 y (by omega), hM6, A_n (by show y ≠ szM M5; omega), D5]) (Nat.le_refl _)
      have tr2 : TrK (3 * (6 - (d + 1)) + 3) K a (szM M) (szM M8) M8.2.2.2.1 r2 c2 := j7.to (by omega) (by omega) (fun y h1 h2 => D8 y (by omega)) (Nat.le_refl _)
      have trP := tr_pair (lo := szM M) (hi := szM M8) hj1 hy5 (by rw [hM8]; exact D_s) tr1 tr2 (by omega) (by omega)
      have ek : k + 4 = 5 + j := by omega
      show okR a B L _ 0 0 0 0 M p _ (mustP B L p3 41 fun p4 => .inr (p4, c1 ++ c2 ++ [k + 4]))
      rw [ek]
      exact close M8 p3 (szM M5) _ (x6.tr ((j2.wk (show szM M5 ≤ szM M6 by omega)).tr x78 (Nat.le_refl _)) (by omega)) k8 R8 (by omega) (by omega) (trP.to (Nat.le_refl _) (Nat.le_refl _) (fun _ _ _ => rfl) (by omega))
end PSC

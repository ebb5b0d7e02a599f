/-! PARSER, facts at the component; all levels -/
set_option maxRecDepth 100000
section PFC
variable {K : KE} {a i n k p q L m d dd c s t u v w ce se kk cnt p' p1 al : Nat} {M M' M1 M2 : CM} {B : Nat → Nat} {cs c1 : List Nat} {rsC : Nat → HS → Nat → CRes} {rsP : Nat → Nat → Nat → PRes} {res : CRes} {pr : PRes} {T T' : Nat → Nat → (Nat → Option HE) → Nat → List Nat → Prop}
/-- from another place on -/
theorem okR.lf {u' c' s' v' : Nat} (I : okR a B L T u' c' s' v' M1 q res pr) (x1 : EX (szM M) M M1) (k1 : RK M M1)
    (b1 : ∀ z, z + u' * wn B L q ≤ szM M1 + 400 * (L - q) + c' → z + u * wn B L p ≤ szM M + 400 * (L - p) + c) (b2 : ∀ z, z + u' * wn B L q ≤ slM M1 + 4000 * (L - q) + s' → z + u * wn B L p ≤ slM M + 4000 * (L - p) + s)
    (b3 : ∀ z p', z + u' * wn B L q ≤ szM M1 + 400 * (L - q) + c' + v' * wn B L p' → z + u * wn B L p ≤ szM M + 400 * (L - p) + c + v * wn B L p') (b4 : ∀ z p', z + u' * wn B L q ≤ slM M1 + 4000 * (L - q) + s' + v' * wn B L p' → z + u * wn B L p ≤ slM M + 4000 * (L - p) + s + v * wn B L p')
    (hT : ∀ hi D r cs, T (szM M1) hi D r cs → T' (szM M) hi D r cs) : okR a B L T' u c s v M p res pr := by
  have ez : szM M ≤ szM M1 := x1.2.2.2.2.1
  rcases pr with e | ⟨p', cs⟩
  · obtain ⟨M', i1, i2, i3, i4, i5⟩ := I
    exact ⟨M', i1, x1.tr i2 ez, i3, b1 _ i4, b2 _ i5⟩
  · obtain ⟨M', r, i1, i2, i3, i4, ⟨i5, i6⟩, i7⟩ := I
    exact ⟨M', r, i1, x1.tr i2 ez, i3, k1.tr i4, ⟨b3 _ _ i5, b4 _ _ i6⟩, hT _ _ _ _ i7⟩
/-- a test in brackets: from the sign on -/
theorem squareC (W : RB a B L m d M q) (hd : d ≤ 6) (z : SI B L q 91) (I : IHs K a B L m d rsC rsP) (hok : d ≠ 6 → ∀ t p, p ≤ L → okP B L m p (rsP t (d + 1) p)) (R : RO K B L 0 0 0 M q) :
    okR a B L (TeK (2 * (6 - d) + 1) K a) 0 0 0 0 M q ((fX2_opens K (hp a M) (a + 9) (nI q)).bind fun x49 => tb x49 (fun q50 => some (x49.1, .inl q50)) fun v51 => (gI K x49.1 (some (a + 9)) 2 2).bind fun v53 => (pV x49.1 (some (a + 9)) 2 2 (.int (v53 + (1 : Int32)))).bind fun h54 => (rcv K h54 (some (a + 9)) 2).bind fun b55 => (rsC 2 h54 b55).bind fun x56 => tb x56 (fun q57 => some (x56.1, .inl q57)) fun v58 => (rcv K x56.1 (some (a + 9)) 2).bind fun b60 => (fX2_must K x56.1 b60 (93 : Int32)).bind fun x61 => tb x61 (fun q62 => some (x61.1, .inl q62)) fun v63 => (gI K x61.1 (some (a + 9)) 2 4).bind fun v65 => (pV x61.1 (some (a + 9)) 2 4 (.int (v65 - (1 : Int32)))).bind fun h66 => some (h66, .inr v58)) (openP d q (pb (rsP 2 (d + 1) (q + 1)) fun p1 c1 => mustP B L p1 93 fun p2 => .inr (p2, c1))) := by
  obtain ⟨R1, R2⟩ := R
  have hz := W.2.1
  have e12 := W.1.2.2.2.2
  have z1 := z.1
  clear z
  have op := opensC (K := K) (a := a) (M := M) (nI q) d hd W.2.2.2.1
  unfold openP
  by_cases d6 : d = 6
  · rw [if_pos d6] at op ⊢
    have sw : szM (wr M 4 (nI q)) = szM M := rfl
    have tw : slM (wr M 4 (nI q)) = slM M := rfl
    refine ⟨wr M 4 (nI q), ?_, (EX.refl M).wr, ⟨by rw [wr, mI_n (by omega)]; exact mI_s, mI_s⟩, by omega, by omega⟩
    simp only [bsm, op, tb]
  rw [if_neg d6] at op ⊢
  obtain ⟨M2, hM2⟩ : ∃ M2, M2 = mI M 9 4 (nI (d + 1)) := ⟨_, rfl⟩
  have W2 : RB a B L m (d + 1) M2 q := by rw [hM2]; exact W.op
  rw [← hM2] at op
  have e22 := W2.1.2.2.2.2
  obtain ⟨M3, hM3⟩ : ∃ M3, M3 = mI M2 9 2 (nI (q + 1)) := ⟨_, rfl⟩
  have p3 : pV (hp a M2) (some (a + 9)) 2 2 (.int (nI (q + 1))) = some (hp a M3) := by rw [hM3]; exact r_p2
  have W3 : RB a B L m (d + 1) M3 (q + 1) := by rw [hM3]; exact W2.mv z1
  have x3 : EX (szM M) M M3 := by rw [hM3, hM2]; exact ((EX.refl M).si (Or.inl rfl)).si (Or.inl rfl)
  have s3 : szM M3 = szM M := by rw [hM3, hM2]; rfl
  have t3 : slM M3 = slM M := by rw [hM3, hM2]; rfl
  have k3 : ∀ k, k ≠ 2 → k ≠ 3 → k ≠ 4 → M3.1 9 k = M.1 9 k := fun k h1 h2 h3 => by rw [hM3, hM2, mI_n (by omega), mI_n (by omega)]
  have J := (I d6 M3 (q + 1) W3).2.2.1 ⟨by omega, by omega⟩
  have ok1 := hok d6 2 (q + 1) z1
  have d4 : nI (d + 1) - 1 = nI d := by rw [nI_m1 (by omega)]; exact congrArg nI (by omega)
  cases hpr : rsP 2 (d + 1) (q + 1) with
  | inl e =>
    rw [hpr] at J
    obtain ⟨M', i1, i2, i3, i4, i5⟩ := J
    refine ⟨M', ?_, x3.tr i2 (Nat.le_of_eq s3.symm), i3, by omega, by omega⟩
    simp only [bsm, op, tb, r_g2, e22, nI_1, p3, r_rcv, i1]
  | inr e =>
    obtain ⟨p1, c1⟩ := e
    rw [hpr] at J ok1
    obtain ⟨M4, r, i1, g1, g3, g2, ⟨i5, i6⟩, g6⟩ := J
    obtain ⟨⟨o1, o2, -⟩, -⟩ := ok1
    rw [s3] at g1 g6
    have ez : szM M3 ≤ szM M4 := g1.2.2.2.2.1
    have wl := @wn_le p1 L B o2
    have mu := mustC (K := K) (a := a) (c := 93) g3 (by omega)
    rw [show nI 93 = (93 : Int32) from rfl] at mu
    have sg := @sk_ge p1 L B
    show okR a B L _ 0 0 0 0 M q _ (mustP B L p1 93 fun p2 => .inr (p2, c1))
    by_cases y : SI B L (sk B L p1) 93
    · rw [if_pos y] at mu
      rw [mustP_p y]
      have w0 := wn_0 (SI_nl y (by omega))
      have y1 := y.1
      clear y
      obtain ⟨M5, hM5⟩ : ∃ M5, M5 = mI M4 9 2 (nI (sk B L p1 + 1)) := ⟨_, rfl⟩
      rw [← hM5] at mu
      have m54 : M5.1 9 4 = nI (d + 1) := by rw [hM5, mI_n (by omega), g2 4 (by omega) (by omega)]; exact W3.2.2.2.1
      have R5 : RD M5 B L (sk B L p1 + 1) := by rw [hM5]; exact g3.mv y1
      have s6 : szM (mI M5 9 4 (nI d)) = szM M4 := by rw [hM5]; rfl
      have t6 : slM (mI M5 9 4 (nI d)) = slM M4 := by rw [hM5]; rfl
      refine ⟨mI M5 9 4 (nI d), r, ?_, ?_, ?_, ?_, ⟨by omega, by omega⟩, ?_⟩
      · simp only [bsm, op, tb, r_g2, e22, nI_1, p3, r_rcv, i1, mu, r_g4, m54, d4, r_p4]
      · rw [hM5]
        exact ((x3.tr g1 (Nat.le_refl _)).si (Or.inl rfl)).si (Or.inl rfl)
      · exact ⟨R5.1.to (mI_o (by omega)), R5.2.1, R5.2.2.1, by rw [mI_n (by omega)]; exact R5.2.2.2.1, by rw [mI_n (by omega)]; exact R5.2.2.2.2⟩
      · intro k h1 h2
        by_cases h4 : k = 4
        · subst h4
          rw [mI_s]
          exact W.2.2.2.1.symm
        · rw [mI_n (by omega), hM5, mI_n (by omega), g2 k h1 h2, k3 k h1 h2 h4]
      · rw [s6]
        have : (mI M5 9 4 (nI d)).2.2.2.1 = M4.2.2.2.1 := by rw [hM5]; rfl
        rw [this]
        exact g6.to (Nat.le_refl _) (Nat.le_refl _) (fun _ _ _ => rfl) (by omega)
    · rw [if_neg y] at mu
      rw [mustP_n y]
      clear y
      have sw : szM (wr (mI M4 9 2 (nI (sk B L p1))) 1 (nI (sk B L p1))) = szM M4 := rfl
      have tw : slM (wr (mI M4 9 2 (nI (sk B L p1))) 1 (nI (sk B L p1))) = slM M4 := rfl
      refine ⟨wr (mI M4 9 2 (nI (sk B L p1))) 1 (nI (sk B L p1)), ?_, ((x3.tr g1 (Nat.le_refl _)).si (Or.inl rfl)).wr, ⟨by rw [wr, mI_n (by omega)]; exact mI_s, mI_s⟩, by omega, by omega⟩
      simp only [bsm, op, tb, r_g2, e22, nI_1, p3, r_rcv, i1, mu]
/-- behind the word not -/
theorem notC (W : RB a B L m d M p) (hd : d ≤ 6) (e23 : M.1 9 3 = nI q) (I : IHs K a B L m d rsC rsP) (R : RO K B L 0 15 63 M p) :
    okR a B L (TeK (2 * (6 - d) + 1) K a) 0 15 63 0 M p ((fX2_opens K (hp a M) (a + 9) (nI q)).bind fun x34 => tb x34 (fun q35 => some (x34.1, .inl q35)) fun v36 => (alc K x34.1 (.inr (15, df15)) 1).bind fun h38 => (rcv K h38 (some (a + 9)) 2).bind fun b39 => (rsC 3 h38 b39).bind fun x40 => tb x40 (fun q41 => some (x40.1, .inl q41)) fun v42 => (fX18_init K x40.1 x34.1.2.1 v42).bind fun x44 => (gI K x44 (some (a + 9)) 2 4).bind fun v45 => (pV x44 (some (a + 9)) 2 4 (.int (v45 - (1 : Int32)))).bind fun h46 => some (h46, .inr (some x34.1.2.1))) (openP d q (pb (rsP 3 (d + 1) p) fun p1 c1 => .inr (p1, c1 ++ [12]))) := by
  obtain ⟨R1, R2⟩ := R
  have hz := W.2.1
  have op := opensC (K := K) (a := a) (M := M) (nI q) d hd W.2.2.2.1
  unfold openP
  by_cases d6 : d = 6
  · rw [if_pos d6] at op ⊢
    have sw : szM (wr M 4 (nI q)) = szM M := rfl
    have tw : slM (wr M 4 (nI q)) = slM M := rfl
    refine ⟨wr M 4 (nI q), ?_, (EX.refl M).wr, ⟨by rw [wr, mI_n (by omega)]; exact mI_s, mI_s⟩, by omega, by omega⟩
    simp only [bsm, op, tb]
  rw [if_neg d6] at op ⊢
  obtain ⟨M3, hM3⟩ : ∃ M3, M3 = mI M 9 4 (nI (d + 1)) := ⟨_, rfl⟩
  rw [← hM3] at op
  have W3 : RB a B L m (d + 1) M3 p := by rw [hM3]; exact W.op
  have s3 : szM M3 = szM M := by rw [hM3]; rfl
  have t3 : slM M3 = slM M := by rw [hM3]; rfl
  have hy3 : ¬ inB a (szM M3) := fun z => by have := z.2.1; omega
  obtain ⟨M4, hM4⟩ : ∃ M4, M4 = mA M3 (.inr (15, df15)) 1 := ⟨_, rfl⟩
  have al4 : alc K (hp a M3) (.inr (15, df15)) 1 = some (hp a M4) := by rw [hM4]; exact d_al hy3 (by omega) (by omega)
  have s4 : szM M4 = szM M3 + 1 := by rw [hM4]; rfl
  have t4 : slM M4 = slM M3 + 1 := by rw [hM4]; rfl
  have x34 : EX (szM M3) M3 M4 := by rw [hM4]; exact ((FX.refl (fun _ => False) M3).mA).ex (fun _ q => absurd q id) (Nat.le_refl _)
  have W4 : RB a B L m (d + 1) M4 p := W3.cl (by rw [hM4]; rfl) x34 (by omega)
  have x24 : EX (szM M) M M4 := by
    have : EX (szM M) M M3 := by rw [hM3]; exact (EX.refl M).si (Or.inl rfl)
    exact this.tr x34 (by omega)
  have J := (I d6 M4 p W4).2.2.2 ⟨by omega, by omega⟩
  have sz3 : (hp a M3).2.1 = szM M3 := rfl
  have d4 : nI (d + 1) - 1 = nI d := by rw [nI_m1 (by omega)]; exact congrArg nI (by omega)
  cases hpr : rsP 3 (d + 1) p with
  | inl e =>
    rw [hpr] at J
    obtain ⟨M', i1, i2, i3, i4, i5⟩ := J
    refine ⟨M', ?_, x24.tr i2 (by omega), i3, by omega, by omega⟩
    simp only [bsm, op, tb, al4, r_rcv, i1]
  | inr e =>
    obtain ⟨p1, c1⟩ := e
    rw [hpr] at J
    obtain ⟨M5, r1, i1, i2, i3, i4, ⟨i5, i6⟩, i7⟩ := J
    have ez5 : szM M4 ≤ szM M5 := i2.2.2.2.2.1
    have D5 : M5.2.2.2.1 (szM M3) = some (.inr (15, df15)) := by
      rw [i2.2.2.2.1 (szM M3) (by omega), hM4]
      exact A_s
    obtain ⟨M6, hM6⟩ : ∃ M6, M6 = mD M5 (szM M3) (some (.inr (15, [.ref r1]))) := ⟨_, rfl⟩
    have p5 : pV (hp a M5) (some (szM M3)) 15 0 (va_rf (some r1)) = some (hp a M6) := by rw [hM6]; exact d_pV hy3 D5 (by decide)
    have m61 : M6.1 = M5.1 := by rw [hM6]; rfl
    have m64 : M6.1 9 4 = nI (d + 1) := by rw [m61, i4 4 (by omega) (by omega)]; exact W4.2.2.2.1
    have s7 : szM (mI M6 9 4 (nI d)) = szM M5 := by rw [hM6]; rfl
    have t7 : slM (mI M6 9 4 (nI d)) = slM M5 := by rw [hM6]; rfl
    have x56 : EX (szM M3) M5 M6 := by
      rw [hM6]
      exact ((FX.refl (fun y => y = szM M3) M5).mD (fun _ => rfl)).ex (fun y q => by omega) (by omega)
    refine ⟨mI M6 9 4 (nI d), szM M3, ?_, (x24.tr ((i2.wk (show szM M3 ≤ szM M4 by omega)).tr x56 (Nat.le_refl _)) (by omega)).si (Or.inl rfl), ?_, ?_, ⟨by omega, by omega⟩, ?_⟩
    · simp only [bsm, op, tb, al4, r_rcv, i1, fX18_init, fX16_init, sz3, p5, r_g4, m64, d4, r_p4]
    · exact ⟨i3.1.to (by rw [mI_o (by omega), m61]), i3.2.1, i3.2.2.1, by rw [mI_n (by omega), m61]; exact i3.2.2.2.1, by rw [mI_n (by omega), m61]; exact i3.2.2.2.2⟩
    · intro k h1 h2
      by_cases h4 : k = 4
      · subst h4
        rw [mI_s]
        exact W.2.2.2.1.symm
      · have q4 : M4.1 9 k = M.1 9 k := by rw [hM4]; show M3.1 9 k = _; rw [hM3, mI_n (by omega)]
        rw [mI_n (by omega), m61, i4 k h1 h2, q4]
    · rw [s7]
      have dd : (mI M6 9 4 (nI d)).2.2.2.1 = M6.2.2.2.1 := rfl
      rw [dd]
      have T1 : TeK (2 * (6 - (d + 1)) + 1) K a (szM M4) (szM M5) M6.2.2.2.1 r1 c1 := i7.to (Nat.le_refl _) (Nat.le_refl _) (fun y h1 h2 => by rw [hM6, D_n (by omega)]) (Nat.le_refl _)
      exact (te_not (lo := szM M) (hi := szM M5) hy3 (by rw [hM6]; exact D_s) T1 (by omega) (by omega) (by omega) (by omega)).to (Nat.le_refl _) (Nat.le_refl _) (fun _ _ _ => rfl) (by omega)
/-- the word all -/
theorem allC (W : RB a B L m d M p) (R : RO K B L 0 1 0 M p) : okR a B L (TeK (2 * (6 - d) + 1) K a) 0 1 0 0 M p ((alc K (hp a M) (.inr (16, df16)) 0).bind fun h30 => (fX19_init K h30 (hp a M).2.1).bind fun x31 => some (h30, .inr (some (hp a M).2.1))) (.inr (p, [13])) := by
  obtain ⟨R1, R2⟩ := R
  have hz := W.2.1
  have o4 := W.1
  have hy2 : ¬ inB a (szM M) := fun z => by have := z.2.1; omega
  have sz2 : (hp a M).2.1 = szM M := rfl
  obtain ⟨M3, hM3⟩ : ∃ M3, M3 = mA M (.inr (16, df16)) 0 := ⟨_, rfl⟩
  have al3 : alc K (hp a M) (.inr (16, df16)) 0 = some (hp a M3) := by rw [hM3]; exact d_al hy2 (by omega) (by omega)
  have s4 : szM M3 = szM M + 1 := by rw [hM3]; rfl
  have t4 : slM M3 = slM M := by rw [hM3]; rfl
  have m41 : M3.1 = M.1 := by rw [hM3]; rfl
  have x24 : EX (szM M) M M3 := by
    rw [hM3]
    exact ((FX.refl (fun _ => False) M).mA).ex (fun y q => absurd q id) (Nat.le_refl _)
  refine ⟨M3, szM M, ?_, x24, ⟨o4.1.to (by rw [m41]), o4.2.1, o4.2.2.1, by rw [m41]; exact o4.2.2.2.1, by rw [m41]; exact o4.2.2.2.2⟩, RK.eq m41, ⟨by omega, by omega⟩, ?_⟩
  · simp only [al3, bsm, sz2, fX19_init, fX16_init]
  · exact (te_all hy2 (by rw [hM3]; exact A_s) (by omega) (by omega)).to (Nat.le_refl _) (Nat.le_refl _) (fun _ _ _ => rfl) (by omega)
/-- one fact -/
theorem factC (C : CW K a) (hm : m < 4) (hd : d ≤ 6) (I : IHs K a B L m d rsC rsP) (hok : d ≠ 6 → ∀ t p, p ≤ L → okP B L m p (rsP t (d + 1) p)) : ∀ M p, RB a B L m d M p → RO K B L 100 14 62 M p → okR a B L (TeK (2 * (6 - d) + 1) K a) 100 14 62 0 M p (fX2_fact K (hp a M) rsC (a + 9)) (factP B L m rsP d p) := by
  intro M p Wb R
  have TH := thanC (K := K) (rsC := rsC) hd (sumC C hm hd I hok) (fun p hp => sum_ok hp hok)
  obtain ⟨-, -, -, -, -, -, Cn, Call⟩ := C
  have R0 := Wb.1
  have hL := R0.2.1
  have hp' := R0.2.2.1
  have hh := R0.here (K := K) (a := a)
  have ce : (chI B L (sk B L p) = (91 : Int32)) = SI B L (sk B L p) 91 := ch_eq (c := 91) R0.lt hL (by omega)
  have ql := @sk_le p L B hp'
  have qg := @sk_ge p L B
  have wpl := @wn_le p L B hp'
  have wsk := wn_sk (B := B) (L := L) (p := p)
  have wss := @sk_sk p L B
  have wpe := wn_e (B := B) (L := L) (p := p)
  have wp0 := fun h => wn_0 (B := B) (L := L) (p := p) h
  have wp1 := fun h => wn_1 (B := B) (L := L) (p := p) h
  have thk := thanP_sk (B := B) (L := L) (m := m) (rsP := rsP) (d := d) (p := p)
  unfold factP
  obtain ⟨q, hq⟩ : ∃ q, sk B L p = q := ⟨_, rfl⟩
  rw [hq] at hh ce ql qg wsk wss wpe wp0 wp1 thk ⊢
  obtain ⟨M1, hM1⟩ : ∃ M1, M1 = mI M 9 2 (nI q) := ⟨_, rfl⟩
  rw [← hM1] at hh
  have W1 : RB a B L m d M1 q := by rw [hM1]; exact Wb.mv ql
  have e12 := W1.1.2.2.2.2
  have x1 : EX (szM M) M M1 := by rw [hM1]; exact (EX.refl M).si (Or.inl rfl)
  have k1 : RK M M1 := by rw [hM1]; exact (RK.eq rfl : RK M M).mv
  have s1 : szM M1 = szM M := by rw [hM1]; rfl
  have t1 : slM M1 = slM M := by rw [hM1]; rfl
  have hz1 := W1.2.1
  have hN1 := W1.2.2.1
  obtain ⟨R1, R2⟩ := R
  by_cases z : SI B L q 91
  · rw [if_pos z]
    have w0 := wp0 (SI_nl z (by omega))
    have J := squareC (K := K) W1 hd z I hok ⟨by omega, by omega⟩
    clear wp0 wp1
    have st : fX2_fact K (hp a M) rsC (a + 9) = (fX2_opens K (hp a M1) (a + 9) (nI q)).bind fun x49 => tb x49 (fun q50 => some (x49.1, .inl q50)) fun v51 => (gI K x49.1 (some (a + 9)) 2 2).bind fun v53 => (pV x49.1 (some (a + 9)) 2 2 (.int (v53 + (1 : Int32)))).bind fun h54 => (rcv K h54 (some (a + 9)) 2).bind fun b55 => (rsC 2 h54 b55).bind fun x56 => tb x56 (fun q57 => some (x56.1, .inl q57)) fun v58 => (rcv K x56.1 (some (a + 9)) 2).bind fun b60 => (fX2_must K x56.1 b60 (93 : Int32)).bind fun x61 => tb x61 (fun q62 => some (x61.1, .inl q62)) fun v63 => (gI K x61.1 (some (a + 9)) 2 4).bind fun v65 => (pV x61.1 (some (a + 9)) 2 4 (.int (v65 - (1 : Int32)))).bind fun h66 => some (h66, .inr v58) := by
      simp only [fX2_fact, r_rcv, bsm, hh, ce, if_pos z, r_g2, e12]
    rw [st]
    exact J.lf x1 k1 (fun z h => by omega) (fun z h => by omega) (fun z p' h => by omega) (fun z p' h => by omega) (fun hi D r cs h => by rw [← s1]; exact h)
  rw [if_neg z]
  have pa0 : ¬ LEa B L q → ∀ t, fX2_passes K (hp a M1) (a + 9) (K.2.1 t) = some (hp a M1, .inr 0) := fun le t => by
    have hh1 := W1.1.here (K := K) (a := a)
    rw [wss, mI_id e12] at hh1
    have l1 := (ltI (K := K) (σ := (fun _ => 0, fun _ => 0, fun _ _ => 0, fun _ _ => 0)) (p := q) R0.lt hL (hp a M1)).1
    simp only [fX2_passes, r_g2, bsm, r_rcv, hh1, l1, if_neg le, if_true]
  by_cases le : LEa B L q
  rotate_left
  · rw [if_neg (fun z => le z.1), if_neg (fun z : HW B L q (wdL 77) => le z.1.1), if_neg (fun z : HW B L q (wdL 80) => le z.1.1), ← thk]
    have w0 := wp0 le
    have pa1 := pa0 le 30
    have pa2 := pa0 le 31
    have st : fX2_fact K (hp a M) rsC (a + 9) = thF K (a + 9) rsC (hp a M1) := by
      simp only [fX2_fact, r_rcv, bsm, hh, ce, if_neg z, pa1, tb, if_true, pa2, thF]
    rw [st]
    clear wp0 wp1 pa0 z le
    exact (TH M1 q W1 ⟨by omega, by omega⟩).lf x1 k1 (fun z h => by omega) (fun z h => by omega) (fun z p' h => by omega) (fun z p' h => by omega) (fun hi D r cs h => by rw [← s1]; exact h.to (Nat.le_refl _) (Nat.le_refl _) (fun _ _ _ => rfl) (by omega))
  have w1 := wp1 le
  have wel := @we_le q L B ql
  have pc := passC (K := K) W1.1 Cn hz1 hN1
  rw [wss] at pc
  have r1' : szM M1 + 3 ≤ K.2.2.1 := by omega
  have r2' : slM M1 + 4 + 2 * wn B L q ≤ K.2.2.2 := by omega
  have pcB := pc r1' r2'
  clear pc
  rcases pcB with ⟨nl, -⟩ | ⟨⟨-, pt⟩, M', e1, e2, e3, e4, e5⟩ | ⟨⟨-, npt⟩, M2, x2, k2, f2, s2, t2, hh2⟩
  · exact absurd le nl
  · rw [if_pos ⟨le, pt⟩]
    have s' : szM M' = szM M1 := by rw [show szM M' = M'.2.2.2.2.1 from rfl, e2]
    have t' : slM M' = slM M1 := by rw [show slM M' = M'.2.2.2.2.2 from rfl, e2]
    have st : fX2_fact K (hp a M) rsC (a + 9) = some (hp a M', .inl (a + 10)) := by
      simp only [fX2_fact, r_rcv, bsm, hh, ce, if_neg z, e1, tb]
    rw [st]
    clear wp0 wp1 pa0 z le pt
    exact ⟨M', rfl, x1.tr e3 (Nat.le_of_eq s1.symm), ⟨e4, e5⟩, by omega, by omega⟩
  rw [if_neg (fun z => npt z.2)]
  have s2' : szM M2 = szM M1 + 3 := s2
  have t2' : slM M2 = slM M1 + 4 + 2 * wn B L q := t2
  have x12 : EX (szM M) M M2 := x1.tr x2 (Nat.le_of_eq s1.symm)
  rcases hh2 with ⟨wq, e1, r1⟩ | ⟨nwq, e1, r1⟩
  · rw [if_pos (⟨⟨le, npt⟩, wq⟩ : HW B L q (wdL 77))]
    have W2 : RB a B L m d M2 (we B L q) := W1.nx x2 k2 r1
    have st : fX2_fact K (hp a M) rsC (a + 9) = (fX2_opens K (hp a M2) (a + 9) (nI q)).bind fun x34 => tb x34 (fun q35 => some (x34.1, .inl q35)) fun v36 => (alc K x34.1 (.inr (15, df15)) 1).bind fun h38 => (rcv K h38 (some (a + 9)) 2).bind fun b39 => (rsC 3 h38 b39).bind fun x40 => tb x40 (fun q41 => some (x40.1, .inl q41)) fun v42 => (fX18_init K x40.1 x34.1.2.1 v42).bind fun x44 => (gI K x44 (some (a + 9)) 2 4).bind fun v45 => (pV x44 (some (a + 9)) 2 4 (.int (v45 - (1 : Int32)))).bind fun h46 => some (h46, .inr (some x34.1.2.1)) := by
      simp only [fX2_fact, r_rcv, bsm, hh, ce, if_neg z, e1, tb, if_neg n01, r_g3, f2]
    rw [st]
    clear wp0 wp1 pa0 z le npt wq
    exact (notC (K := K) W2 hd f2 I ⟨by omega, by omega⟩).lf x12 (k1.tr k2) (fun z h => by omega) (fun z h => by omega) (fun z p' h => by omega) (fun z p' h => by omega) (fun hi D r cs h => h.to (by omega) (Nat.le_refl _) (fun _ _ _ => rfl) (Nat.le_refl _))
  rw [if_neg (fun z : HW B L q (wdL 77) => nwq z.2)]
  have W2 : RB a B L m d M2 q := W1.nx x2 k2 r1
  have pc := passC (K := K) W2.1 Call W2.2.1 W2.2.2.1
  rw [wss] at pc
  have r1' : szM M2 + 3 ≤ K.2.2.1 := by omega
  have r2' : slM M2 + 4 + 2 * wn B L q ≤ K.2.2.2 := by omega
  have pcB := pc r1' r2'
  clear pc
  rcases pcB with ⟨nl, -⟩ | ⟨⟨-, pt⟩, -⟩ | ⟨-, M3, x3, k3, f3, s3, t3, hh3⟩
  · exact absurd le nl
  · exact absurd pt npt
  have s3' : szM M3 = szM M2 + 3 := s3
  have t3' : slM M3 = slM M2 + 4 + 2 * wn B L q := t3
  have x13 : EX (szM M) M M3 := x12.tr x3 (show szM M ≤ szM M2 by omega)
  rcases hh3 with ⟨wq, e3, r3⟩ | ⟨nwq3, e3, r3⟩
  · rw [if_pos (⟨⟨le, npt⟩, wq⟩ : HW B L q (wdL 80))]
    have W3 : RB a B L m d M3 (we B L q) := W2.nx x3 k3 r3
    have st : fX2_fact K (hp a M) rsC (a + 9) = (alc K (hp a M3) (.inr (16, df16)) 0).bind fun h30 => (fX19_init K h30 (hp a M3).2.1).bind fun x31 => some (h30, .inr (some (hp a M3).2.1)) := by
      simp only [fX2_fact, r_rcv, bsm, hh, ce, if_neg z, e1, tb, if_true, e3, if_neg n01]
    rw [st]
    clear wp0 wp1 pa0 z le npt wq nwq
    exact (allC (K := K) W3 ⟨by omega, by omega⟩).lf x13 ((k1.tr k2).tr k3) (fun z h => by omega) (fun z h => by omega) (fun z p' h => by omega) (fun z p' h => by omega) (fun hi D r cs h => h.to (by omega) (Nat.le_refl _) (fun _ _ _ => rfl) (Nat.le_refl _))
  rw [if_neg (fun z : HW B L q (wdL 80) => nwq3 z.2), ← thk]
  have W3 : RB a B L m d M3 q := W2.nx x3 k3 r3
  have st : fX2_fact K (hp a M) rsC (a + 9) = thF K (a + 9) rsC (hp a M3) := by
    simp only [fX2_fact, r_rcv, bsm, hh, ce, if_neg z, e1, tb, if_true, e3, thF]
  rw [st]
  clear wp0 wp1 pa0 z le npt nwq nwq3
  exact (TH M3 q W3 ⟨by omega, by omega⟩).lf x13 ((k1.tr k2).tr k3) (fun z h => by omega) (fun z h => by omega) (fun z p' h => by omega) (fun z p' h => by omega) (fun hi D r cs h => h.to (by omega) (Nat.le_refl _) (fun _ _ _ => rfl) (by omega))
theorem bothC (C : CW K a) (hm : m < 4) (hd : d ≤ 6) (I : IHs K a B L m d rsC rsP) (hok : d ≠ 6 → ∀ t p, p ≤ L → okP B L m p (rsP t (d + 1) p)) : ∀ M p, RB a B L m d M p → RO K B L 100 18 71 M p → okR a B L (TeK (2 * (6 - d) + 2) K a) 100 18 71 6 M p (fX2_both K (hp a M) rsC (a + 9)) (bothP B L m rsP d p) := fun M p W R => by
  rw [both_faF]
  exact faFC (t := 29) (w := 78) (kk := 10) (al := 1) (v := 0) C.2.2.2.2.2.1 (by omega) (by omega) rfl (by omega) (factC C hm hd I hok) (fun p hp => fact_ok hp hok) W R
theorem testC (C : CW K a) (hm : m < 4) (hd : d ≤ 6) (I : IHs K a B L m d rsC rsP) (hok : d ≠ 6 → ∀ t p, p ≤ L → okP B L m p (rsP t (d + 1) p)) : ∀ M p, RB a B L m d M p → RO K B L 100 22 80 M p → okR a B L (TeK (2 * (6 - d) + 3) K a) 100 22 80 12 M p (fX2_test K (hp a M) rsC (a + 9)) (testP B L m rsP d p) := fun M p W R => by
  rw [test_faF]
  exact faFC (t := 28) (w := 79) (kk := 11) (al := 0) (v := 6) C.2.2.2.2.1 (by omega) (by omega) rfl (by omega) (bothC C hm hd I hok) (fun p hp => both_ok hp hok) W R
/-- all levels -/
theorem rs_o (C : CW K a) (hm : m < 4) : ∀ n d, 6 ≤ n + d → d ≤ 6 → IHs K a B L m d (rsD K n) (psD B L m n) := by
  intro n
  induction n with
  | zero =>
    intro d h1 h2 hd
    omega
  | succ n ih =>
    intro d h1 h2 hd M p W
    have hd' : d + 1 ≤ 6 := by omega
    have I := ih (d + 1) (by omega) hd'
    have hok : d + 1 ≠ 6 → ∀ t p, p ≤ L → okP B L m p (psD B L m n t (d + 1 + 1) p) := fun h t p hp => psD_ok n t (d + 1 + 1) p (by omega) (by omega) hp
    exact ⟨fun R => sumC C hm hd' I hok M p W R, fun R => atomC2 C hm hd' I hok M p W R, fun R => testC C hm hd' I hok M p W R, fun R => factC C hm hd' I hok M p W R⟩
/-- a sum, a test of the Reader -/
theorem sum64 (C : CW K a) (hm : m < 4) (W : RB a B L m 0 M p) (R : RO K B L 200 14 62 M p) : okR a B L (TrK 21 K a) 200 14 62 0 M p (fX2_sum K (hp a M) (rsD K 64) (a + 9)) (sumP B L m (psD B L m 64) 0 p) :=
  sumC C hm (by omega) (rs_o C hm 64 0 (by omega) (by omega)) (fun h t p hp => psD_ok 64 t 1 p (by omega) (by omega) hp) M p W R
theorem test64 (C : CW K a) (hm : m < 4) (W : RB a B L m 0 M p) (R : RO K B L 100 22 80 M p) : okR a B L (TeK 15 K a) 100 22 80 12 M p (fX2_test K (hp a M) (rsD K 64) (a + 9)) (testP B L m (psD B L m 64) 0 p) :=
  testC C hm (by omega) (rs_o C hm 64 0 (by omega) (by omega)) (fun h t p hp => psD_ok 64 t 1 p (by omega) (by omega) hp) M p W R
end PFC

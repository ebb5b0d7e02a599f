/-! PARSER, one part of a sum at the component -/
set_option maxRecDepth 100000
theorem alw_1 (m : Nat) (hm : m < 4) (j : Nat) (hj : j < 8) : cxN m / 2 ^ j % 2 = 1 ↔ alw m j := by
  have h1 : m = 0 ∨ m = 1 ∨ m = 2 ∨ m = 3 := by omega
  have h2 : j = 0 ∨ j = 1 ∨ j = 2 ∨ j = 3 ∨ j = 4 ∨ j = 5 ∨ j = 6 ∨ j = 7 := by omega
  rcases h1 with rfl | rfl | rfl | rfl <;> rcases h2 with rfl | rfl | rfl | rfl | rfl | rfl | rfl | rfl <;> decide
theorem cxN_l : ∀ m, m < 4 → cxN m < 256 := by decide +kernel
theorem alw_b (m : Nat) (hm : m < 4) (j : Nat) (hj : j < 8) : (cxN m / 2 ^ j % 2 = 1 ↔ alw m j) ∧ cxN m < 256 := ⟨alw_1 m hm j hj, cxN_l m hm⟩
section PAT
variable {K : KE} {a i n k p q L m d c s t u v w lo hi p' e : Nat} {M M' M1 M2 : CM} {B : Nat → Nat} {cs c1 : List Nat} {rsC : Nat → HS → Nat → CRes} {rsP : Nat → Nat → Nat → PRes}
theorem WQ_len {w1 w2 : List Nat} (h1 : WQ B q e w1) (h2 : WQ B q e w2) : w1.length = w2.length := h1.1.symm.trans h2.1
theorem askL_len : ∀ j, j < 8 → 4 ≤ (askL.getD j []).length ∧ ((askL.getD j []).length = 6 → j = 2 ∨ j = 6) := by decide
theorem askL_85 (h : WQ B q e (wdL 85)) : ¬ WQ B q e (wdL 89) := fun g => by
  have h1 := h.2 0 (by decide)
  have g1 := g.2 0 (by decide)
  rw [h1] at g1
  exact absurd g1 (by decide)
/-- weight, told by its number among the words -/
theorem fd_85 {j : Nat} (h : fd B q e askL = some j) : WQ B q e (wdL 85) ↔ j = 2 := by
  obtain ⟨h1, h2⟩ := fd_s h
  have h8 : j < 8 := h1
  constructor
  · intro g
    have l := WQ_len g h2
    have l2 := (askL_len j h8).2 (by rw [← l]; rfl)
    rcases l2 with l2 | l2
    · exact l2
    · subst l2
      exact absurd h2 (askL_85 g)
  · intro g
    subst g
    exact h2
theorem fd_mm {j : Nat} (h : fd B q e askL = some j) : ¬ WQ B q e (wdL 81) ∧ ¬ WQ B q e (wdL 82) := by
  obtain ⟨h1, h2⟩ := fd_s h
  have h8 : j < 8 := h1
  have l := (askL_len j h8).1
  constructor
  · intro g
    have := WQ_len g h2
    have z : (wdL 81).length = 3 := rfl
    omega
  · intro g
    have := WQ_len g h2
    have z : (wdL 82).length = 3 := rfl
    omega
theorem fd_one (w : List Nat) : fd B q e [w] = if WQ B q e w then some 0 else none := rfl
/-- a part by its name -/
theorem askedC {j : Nat} (W2 : RB a B L m d M p) (hj : j < 8) (R : RO K B L 0 1 3 M p) :
    okR a B L (TrK (3 * (6 - d) + 1) K a) 0 1 3 0 M p ((alc K (hp a M) (.inr (12, df12)) 1).bind fun h18 => (fX14_init K h18 (hp a M).2.1 (nI j)).bind fun x19 => some (x19, .inr (some (hp a M).2.1))) (.inr (p, [40 + j])) := by
  obtain ⟨R1, R2⟩ := R
  have hz := W2.2.1
  have o4 := W2.1
  have hy2 : ¬ inB a (szM M) := fun z => by have := z.2.1; omega
  have sz2 : (hp a M).2.1 = szM M := rfl
  obtain ⟨M3, hM3⟩ : ∃ M3, M3 = mA M (.inr (12, df12)) 1 := ⟨_, rfl⟩
  have al3 : alc K (hp a M) (.inr (12, df12)) 1 = some (hp a M3) := by rw [hM3]; exact d_al hy2 (by omega) (by omega)
  have D3 : M3.2.2.2.1 (szM M) = some (.inr (12, df12)) := by rw [hM3]; exact A_s
  obtain ⟨M4, hM4⟩ : ∃ M4, M4 = mD M3 (szM M) (some (.inr (12, [.int (nI j)]))) := ⟨_, rfl⟩
  have p4 : pV (hp a M3) (some (szM M)) 12 0 (.int (nI j)) = some (hp a M4) := by rw [hM4]; exact d_pV hy2 D3 (by decide)
  have s4 : szM M4 = szM M + 1 := by rw [hM4, hM3]; rfl
  have t4 : slM M4 = slM M + 1 := by rw [hM4, hM3]; rfl
  have m41 : M4.1 = M.1 := by rw [hM4, hM3]; rfl
  have x24 : EX (szM M) M M4 := by
    rw [hM4, hM3]
    exact (((FX.refl (fun y => y = szM M) M).mA).mD (fun _ => rfl)).ex (fun y q => by omega) (Nat.le_refl _)
  refine ⟨M4, szM M, ?_, x24, ⟨o4.1.to (by rw [m41]), o4.2.1, o4.2.2.1, by rw [m41]; exact o4.2.2.2.1, by rw [m41]; exact o4.2.2.2.2⟩, RK.eq m41, ⟨by omega, by omega⟩, ?_⟩
  · simp only [al3, bsm, sz2, fX14_init, fX10_init, p4]
  · exact (tr_ask hy2 (by rw [hM4]; exact D_s) hj (by omega) (by omega)).to (Nat.le_refl _) (Nat.le_refl _) (fun _ _ _ => rfl) (by omega)
/-- a part with one behind it -/
theorem lookedC (W2 : RB a B L m d M p) (hd : d ≤ 6) (e23 : M.1 9 3 = nI q) (I1 : d ≠ 6 → ∀ M p, RB a B L m (d + 1) M p → RO K B L 200 0 0 M p → okR a B L (TrK (3 * (6 - (d + 1)) + 1) K a) 200 0 0 0 M p (rsC 1 (hp a M) (a + 9)) (rsP 1 (d + 1) p)) (R : RO K B L 0 1 3 M p) :
    okR a B L (TrK (3 * (6 - d) + 1) K a) 0 1 3 0 M p (fX2_looked K (hp a M) rsC (a + 9) (0 : Int32)) (openP d q (pb (rsP 1 (d + 1) p) fun p1 c1 => .inr (p1, c1 ++ [60]))) := by
  obtain ⟨R1, R2⟩ := R
  have hz := W2.2.1
  have op := opensC (K := K) (a := a) (M := M) (nI q) d hd W2.2.2.2.1
  unfold openP
  by_cases d6 : d = 6
  · rw [if_pos d6] at op ⊢
    have sw : szM (wr M 4 (nI q)) = szM M := rfl
    have tw : slM (wr M 4 (nI q)) = slM M := rfl
    refine ⟨wr M 4 (nI q), ?_, (EX.refl M).wr, ⟨by rw [wr, mI_n (by omega)]; exact mI_s, mI_s⟩, by omega, by omega⟩
    simp only [fX2_looked, r_g3, e23, bsm, r_rcv, op, tb]
  rw [if_neg d6] at op ⊢
  obtain ⟨M3, hM3⟩ : ∃ M3, M3 = mI M 9 4 (nI (d + 1)) := ⟨_, rfl⟩
  rw [← hM3] at op
  have W3 : RB a B L m (d + 1) M3 p := by rw [hM3]; exact W2.op
  have s3 : szM M3 = szM M := by rw [hM3]; rfl
  have t3 : slM M3 = slM M := by rw [hM3]; rfl
  have hy3 : ¬ inB a (szM M3) := fun z => by have := z.2.1; omega
  obtain ⟨M4, hM4⟩ : ∃ M4, M4 = mA M3 (.inr (13, df13)) 3 := ⟨_, rfl⟩
  have al4 : alc K (hp a M3) (.inr (13, df13)) 3 = some (hp a M4) := by rw [hM4]; exact d_al hy3 (by omega) (by omega)
  have s4 : szM M4 = szM M3 + 1 := by rw [hM4]; rfl
  have t4 : slM M4 = slM M3 + 3 := by rw [hM4]; rfl
  have x34 : EX (szM M3) M3 M4 := by rw [hM4]; exact ((FX.refl (fun _ => False) M3).mA).ex (fun _ q => absurd q id) (Nat.le_refl _)
  have W4 : RB a B L m (d + 1) M4 p := W3.cl (by rw [hM4]; rfl) x34 (by omega)
  have x24 : EX (szM M) M M4 := by
    have : EX (szM M) M M3 := by rw [hM3]; exact (EX.refl M).si (Or.inl rfl)
    exact this.tr x34 (by omega)
  have I := I1 d6 M4 p W4 ⟨by omega, by omega⟩
  have sz3 : (hp a M3).2.1 = szM M3 := rfl
  have d4 : nI (d + 1) - 1 = nI d := by rw [nI_m1 (by omega)]; exact congrArg nI (by omega)
  cases hpr : rsP 1 (d + 1) p with
  | inl e =>
    rw [hpr] at I
    obtain ⟨M', i1, i2, i3, i4, i5⟩ := I
    refine ⟨M', ?_, x24.tr i2 (by omega), i3, by omega, by omega⟩
    simp only [fX2_looked, r_g3, e23, bsm, r_rcv, op, tb, al4, r_g7, i1]
  | inr e =>
    obtain ⟨p1, c1⟩ := e
    rw [hpr] at I
    obtain ⟨M5, r1, i1, i2, i3, i4, ⟨i5, i6⟩, i7⟩ := I
    have ez5 : szM M4 ≤ szM M5 := i2.2.2.2.2.1
    have D5 : M5.2.2.2.1 (szM M3) = some (.inr (13, df13)) := by
      rw [i2.2.2.2.1 (szM M3) (by omega), hM4]
      exact A_s
    have p5 : pV (hp a M5) (some (szM M3)) 13 2 (va_rf (some a)) = some (hp a (mD M5 (szM M3) (some (.inr (13, [.int 0, .null, .ref a]))))) := d_pV hy3 D5 (by decide)
    have p6 : pV (hp a (mD M5 (szM M3) (some (.inr (13, [.int 0, .null, .ref a]))))) (some (szM M3)) 13 0 (.int (0 : Int32)) = some (hp a (mD (mD M5 (szM M3) (some (.inr (13, [.int 0, .null, .ref a])))) (szM M3) (some (.inr (13, [.int 0, .null, .ref a]))))) := d_pV hy3 D_s (Nat.le_of_ble_eq_true rfl)
    rw [mD_mD] at p6
    have p7 : pV (hp a (mD M5 (szM M3) (some (.inr (13, [.int 0, .null, .ref a]))))) (some (szM M3)) 13 1 (va_rf (some r1)) = some (hp a (mD (mD M5 (szM M3) (some (.inr (13, [.int 0, .null, .ref a])))) (szM M3) (some (.inr (13, [.int 0, .ref r1, .ref a]))))) := d_pV hy3 D_s (Nat.le_of_ble_eq_true rfl)
    rw [mD_mD] at p7
    obtain ⟨M6, hM6⟩ : ∃ M6, M6 = mD M5 (szM M3) (some (.inr (13, [.int 0, .ref r1, .ref a]))) := ⟨_, rfl⟩
    rw [← hM6] at p7
    have m61 : M6.1 = M5.1 := by rw [hM6]; rfl
    have m64 : M6.1 9 4 = nI (d + 1) := by rw [m61, i4 4 (by omega) (by omega)]; exact W4.2.2.2.1
    have s7 : szM (mI M6 9 4 (nI d)) = szM M5 := by rw [hM6]; rfl
    have t7 : slM (mI M6 9 4 (nI d)) = slM M5 := by rw [hM6]; rfl
    have x56 : EX (szM M3) M5 M6 := by
      rw [hM6]
      exact ((FX.refl (fun y => y = szM M3) M5).mD (fun _ => rfl)).ex (fun y q => by omega) (by omega)
    refine ⟨mI M6 9 4 (nI d), szM M3, ?_, (x24.tr ((i2.wk (show szM M3 ≤ szM M4 by omega)).tr x56 (Nat.le_refl _)) (by omega)).si (Or.inl rfl), ?_, ?_, ⟨by omega, by omega⟩, ?_⟩
    · simp only [fX2_looked, r_g3, e23, bsm, r_rcv, op, tb, al4, r_g7, i1, fX15_init, fX10_init, sz3, p5, p6, p7, r_g4, m64, d4, r_p4]
    · exact ⟨i3.1.to (by rw [mI_o (by omega), m61]), i3.2.1, i3.2.2.1, by rw [mI_n (by omega), m61]; exact i3.2.2.2.1, by rw [mI_n (by omega), m61]; exact i3.2.2.2.2⟩
    · intro k h1 h2
      by_cases h4 : k = 4
      · subst h4
        rw [mI_s]
        exact W2.2.2.2.1.symm
      · have q4 : M4.1 9 k = M.1 9 k := by rw [hM4]; show M3.1 9 k = _; rw [hM3, mI_n (by omega)]
        rw [mI_n (by omega), m61, i4 k h1 h2, q4]
    · rw [s7]
      have dd : (mI M6 9 4 (nI d)).2.2.2.1 = M6.2.2.2.1 := rfl
      rw [dd]
      have T1 : TrK (3 * (6 - (d + 1)) + 1) K a (szM M4) (szM M5) M6.2.2.2.1 r1 c1 := i7.to (Nat.le_refl _) (Nat.le_refl _) (fun y h1 h2 => by rw [hM6, D_n (by omega)]) (Nat.le_refl _)
      exact (tr_of (lo := szM M) (hi := szM M5) hy3 (by rw [hM6]; exact D_s) T1 (by omega) (by omega) (by omega) (by omega)).to (Nat.le_refl _) (Nat.le_refl _) (fun _ _ _ => rfl) (by omega)
/-- one part -/
theorem atomC (C : CW K a) (hm : m < 4) (Wb : RB a B L m d M p) (hd : d ≤ 6) (I0 : d ≠ 6 → ∀ M p, RB a B L m (d + 1) M p → RO K B L 200 14 62 M p → okR a B L (TrK (3 * (6 - (d + 1)) + 3) K a) 200 14 62 0 M p (rsC 0 (hp a M) (a + 9)) (rsP 0 (d + 1) p)) (I1 : d ≠ 6 → ∀ M p, RB a B L m (d + 1) M p → RO K B L 200 0 0 M p → okR a B L (TrK (3 * (6 - (d + 1)) + 1) K a) 200 0 0 0 M p (rsC 1 (hp a M) (a + 9)) (rsP 1 (d + 1) p)) (hok : d ≠ 6 → ∀ t p, p ≤ L → okP B L m p (rsP t (d + 1) p)) (R : RO K B L 200 0 0 M p) :
    okR a B L (TrK (3 * (6 - d) + 1) K a) 200 0 0 0 M p (fX2_atom K (hp a M) rsC (a + 9)) (atomP B L m rsP d p) := by
  obtain ⟨Ca, Cl, Cmi, Cma, -⟩ := C
  have R0 := Wb.1
  have hL := R0.2.1
  have hp' := R0.2.2.1
  have hh := R0.here (K := K) (a := a)
  have ce : (chI B L (sk B L p) = (40 : Int32)) = SI B L (sk B L p) 40 := ch_eq (c := 40) R0.lt hL (by omega)
  have ql := @sk_le p L B hp'
  have qg := @sk_ge p L B
  have wpl := @wn_le p L B hp'
  have wsk := wn_sk (B := B) (L := L) (p := p)
  have wss := @sk_sk p L B
  have wpe := wn_e (B := B) (L := L) (p := p)
  have wp0 := wn_0 (B := B) (L := L) (p := p)
  have wp1 := wn_1 (B := B) (L := L) (p := p)
  have wtp := withinP_sk (B := B) (L := L) (rsP := rsP) (k := 0) (d := d) (p := p)
  have ntp := nu_sk (B := B) (L := L) (lo := 0) (hi := 9999) (p := p)
  unfold atomP
  obtain ⟨q, hq⟩ : ∃ q, sk B L p = q := ⟨_, rfl⟩
  rw [hq] at hh ce ql qg wsk wss wpe wp0 wp1 wtp ntp ⊢
  obtain ⟨M1, hM1⟩ : ∃ M1, M1 = mI M 9 2 (nI q) := ⟨_, rfl⟩
  rw [← hM1] at hh
  have W1 : RB a B L m d M1 q := by rw [hM1]; exact Wb.mv ql
  have e12 := W1.1.2.2.2.2
  have x1 : EX (szM M) M M1 := by rw [hM1]; exact (EX.refl M).si (Or.inl rfl)
  have k1 : RK M M1 := by rw [hM1]; exact (RK.eq rfl : RK M M).mv
  have s1 : szM M1 = szM M := by rw [hM1]; rfl
  have t1 : slM M1 = slM M := by rw [hM1]; rfl
  have hz1 := W1.2.1
  obtain ⟨R1, R2⟩ := R
  by_cases z : SI B L q 40
  · rw [if_pos z]
    have w0 := wp0 (SI_nl z (by omega))
    have I := withinC (K := K) (k := 0) W1 hd (by omega) I0 hok ⟨by omega, by omega⟩
    rw [wtp] at I
    have st : fX2_atom K (hp a M) rsC (a + 9) = (fX2_within K (hp a M1) rsC (a + 9) (nI 0)).bind fun x28 => tb x28 (fun q29 => some (x28.1, .inl q29)) fun v30 => some (x28.1, .inr v30) := by
      simp only [fX2_atom, r_rcv, bsm, hh, ce, if_pos z]
      rfl
    rw [st]
    cases hpr : withinP B L rsP 0 d p with
    | inl e =>
      rw [hpr] at I
      obtain ⟨M', i1, i2, i3, i4, i5⟩ := I
      exact ⟨M', by rw [i1, bsm]; rfl, x1.tr i2 (Nat.le_of_eq s1.symm), i3, by omega, by omega⟩
    | inr e =>
      obtain ⟨p1, c1⟩ := e
      rw [hpr] at I
      obtain ⟨M', r, i1, i2, i3, i4, ⟨i5, i6⟩, i7⟩ := I
      exact ⟨M', r, by rw [i1, bsm]; rfl, x1.tr i2 (Nat.le_of_eq s1.symm), i3, k1.tr i4, ⟨by omega, by omega⟩, by rw [← s1]; exact i7⟩
  rw [if_neg z]
  have hh2 := W1.1.here (K := K) (a := a)
  rw [wss, mI_id e12] at hh2
  have lt := ltI (K := K) (σ := (fun _ => 0, fun _ => 0, fun _ _ => 0, fun _ _ => 0)) (p := q) R0.lt hL (hp a M1)
  have hy1 : ¬ inB a (szM M1) := fun z => by have := z.2.1; omega
  have sz1 : (hp a M1).2.1 = szM M1 := rfl
  by_cases z2 : DIa B L q
  · rw [if_pos z2]
    have z21 := z2.1
    have w0 := wp0 (fun y => by have a1 := y.2; have a2 := z2.2; omega)
    obtain ⟨M2, hM2⟩ : ∃ M2, M2 = mA M1 (.inr (11, df11)) 1 := ⟨_, rfl⟩
    have al2 : alc K (hp a M1) (.inr (11, df11)) 1 = some (hp a M2) := by rw [hM2]; exact d_al hy1 (by omega) (by omega)
    have s2 : szM M2 = szM M1 + 1 := by rw [hM2]; rfl
    have t2 : slM M2 = slM M1 + 1 := by rw [hM2]; rfl
    have x12 : EX (szM M1) M1 M2 := by rw [hM2]; exact ((FX.refl (fun _ => False) M1).mA).ex (fun _ q => absurd q id) (Nat.le_refl _)
    have W2 : RB a B L m d M2 q := W1.cl (by rw [hM2]; rfl) x12 (by omega)
    have nc := numC2 (K := K) (a := a) (lo := 0) (hi := 9999) W2.1 (by omega) (by omega)
    rw [ntp] at nc
    have st : fX2_atom K (hp a M) rsC (a + 9) = (fX2_number_2 K (hp a M2) (a + 9) (nI 0) (nI 9999)).bind fun x22 => tb x22 (fun q23 => some (x22.1, .inl q23)) fun v24 => (fX13_init K x22.1 (szM M1) v24.toInt64).bind fun x26 => some (x26, .inr (some (szM M1))) := by
      simp only [fX2_atom, r_rcv, bsm, hh, ce, if_neg z, hh2, lt.2.2.1, if_pos z2, if_neg n01, al2, sz1]
      rfl
    rw [st]
    have ni := nu_i (B := B) (L := L) (p := p) (lo := 0) (hi := 9999) hp'
    cases hpr : nu B L 0 9999 p with
    | inl e =>
      rw [hpr] at nc
      obtain ⟨M', i1, i2, i3, i4, i5⟩ := nc
      have s' : szM M' = szM M2 := by rw [show szM M' = M'.2.2.2.2.1 from rfl, i2]
      have t' : slM M' = slM M2 := by rw [show slM M' = M'.2.2.2.2.2 from rfl, i2]
      refine ⟨M', by rw [i1, bsm]; rfl, x1.tr (s' := szM M) ⟨fun o h1 h2 => (i3 o h1 h2).trans (x12.1 o h1 h2), by rw [i2]; exact x12.2.1, by rw [i2]; exact x12.2.2.1, fun y hy => by rw [i2]; exact x12.2.2.2.1 y (by show y < szM M1; omega), by show szM M1 ≤ szM M'; omega, by show slM M1 ≤ slM M'; omega⟩ (Nat.le_refl _), ⟨i4, i5⟩, by omega, by omega⟩
    | inr e =>
      obtain ⟨r', v⟩ := e
      rw [hpr] at nc ni
      obtain ⟨⟨M', i1, i2, i3, i4, i5⟩, i6, i7, i8⟩ := nc
      obtain ⟨⟨n1, n2⟩, -⟩ := ni
      rw [hq] at n1
      have s' : szM M' = szM M2 := by rw [show szM M' = M'.2.2.2.2.1 from rfl, i2]
      have t' : slM M' = slM M2 := by rw [show slM M' = M'.2.2.2.2.2 from rfl, i2]
      have D' : M'.2.2.2.1 (szM M1) = some (.inr (11, df11)) := by rw [i2, hM2]; exact A_s
      have p3 : pV (hp a M') (some (szM M1)) 11 0 (.long (lN v)) = some (hp a (mD M' (szM M1) (some (.inr (11, [.long (lN v)]))))) := d_pV hy1 D' (by decide)
      obtain ⟨M3, hM3⟩ : ∃ M3, M3 = mD M' (szM M1) (some (.inr (11, [.long (lN v)]))) := ⟨_, rfl⟩
      rw [← hM3] at p3
      have s3 : szM M3 = szM M' := by rw [hM3]; rfl
      have t3 : slM M3 = slM M' := by rw [hM3]; rfl
      have m31 : M3.1 = M'.1 := by rw [hM3]; rfl
      have x3 : EX (szM M) M1 M3 := ⟨fun o h1 h2 => by rw [m31, i3 o h1]; exact x12.1 o h1 h2, by rw [hM3]; show M'.2.1 = _; rw [i2]; exact x12.2.1, by rw [hM3]; show M'.2.2.1 = _; rw [i2]; exact x12.2.2.1, fun y hy => by rw [hM3, D_n (by omega), i2]; exact x12.2.2.2.1 y (by show y < szM M1; omega), by show szM M1 ≤ szM M3; omega, by show slM M1 ≤ slM M3; omega⟩
      have k3 : RK M1 M3 := fun k h1 h2 => by rw [m31, i4 k h1 h2, hM2]; rfl
      refine ⟨M3, szM M1, ?_, x1.tr x3 (Nat.le_refl _), ⟨i5.1.to (by rw [m31]), i5.2.1, i5.2.2.1, by rw [m31]; exact i5.2.2.2.1, by rw [m31]; exact i5.2.2.2.2⟩, k1.tr k3, ⟨by omega, by omega⟩, ?_⟩
      · rw [i1, bsm]
        simp only [tb, fX13_init, fX10_init, bsm, nI_64 (show v < 2 ^ 31 by omega), p3]
      · exact (tr_num hy1 (by rw [hM3]; exact D_s) i8 (by omega) (by omega)).to (Nat.le_refl _) (Nat.le_refl _) (fun _ _ _ => rfl) (by omega)
  rw [if_neg z2]
  have wl := @we_le q L B ql
  have wg := @we_ge q L B
  have wo := word_o (K := K) (a := a) W1.1 hz1
  rw [wss] at wo
  have stW : fX2_atom K (hp a M) rsC (a + 9) = (fX2_word K (hp a M1) (a + 9)).bind fun x9 => tb x9 (fun q10 => some (x9.1, .inl q10)) fun v11 => (fX0_find K x9.1 v11 (K.2.1 0)).bind fun x13 => if x13 = (-1 : Int32) then fX2_atom_80 K (a + 9) rsC x9.1 v11 else (gI K x9.1 (some (a + 9)) 2 5).bind fun v15 => (fX0_has K x9.1 v15 x13).bind fun x16 => if x16 = 0 then fX2_atom_80 K (a + 9) rsC x9.1 v11 else (alc K x9.1 (.inr (12, df12)) 1).bind fun h18 => (fX14_init K h18 x9.1.2.1 x13).bind fun x19 => some (x19, .inr (some x9.1.2.1)) := by
    simp only [fX2_atom, r_rcv, bsm, hh, ce, if_neg z, hh2, lt.2.2.1, if_neg z2, if_true]
  by_cases z3 : LEa B L q ∧ ¬ PT B q
  rotate_left
  · rw [if_neg z3]
    have bad : ∃ M', fX2_word K (hp a M1) (a + 9) = some (hp a M', .inl (a + 10)) ∧ M'.2 = M1.2 ∧ EX M1.2.2.2.2.1 M1 M' ∧ M'.1 10 6 = 1 ∧ M'.1 10 7 = nI q := by
      by_cases y : LEa B L q
      · have y1 := wp1 y
        rcases wo (show szM M1 + 3 ≤ K.2.2.1 by omega) (show slM M1 + 4 + 2 * (we B L q - q) ≤ K.2.2.2 by omega) with ⟨-, o2⟩ | ⟨o1, -⟩
        · exact o2
        · exact absurd o1 z3
      · refine ⟨wr M1 1 (nI q), ?_, rfl, (EX.refl M1).wr, by rw [wr, mI_n (by omega)]; exact mI_s, mI_s⟩
        simp only [fX2_word, r_rcv, bsm, hh2, lt.1, if_neg y, if_true, r_g2, e12, wrong_o, f_rcv]
    obtain ⟨M', o2, o3, o4, o5, o6⟩ := bad
    have s' : szM M' = szM M1 := by rw [show szM M' = M'.2.2.2.2.1 from rfl, o3]
    have t' : slM M' = slM M1 := by rw [show slM M' = M'.2.2.2.2.2 from rfl, o3]
    refine ⟨M', ?_, x1.tr o4 (Nat.le_of_eq s1.symm), ⟨o5, o6⟩, by omega, by omega⟩
    rw [stW, o2, bsm]
    rfl
  rw [if_pos z3]
  have y1 := wp1 z3.1
  rcases wo (show szM M1 + 3 ≤ K.2.2.1 by omega) (show slM M1 + 4 + 2 * (we B L q - q) ≤ K.2.2.2 by omega) with ⟨o1, -⟩ | ⟨-, M2, o2, o3, o4, o5, o6, o7, o8, o9⟩
  · exact absurd o1 (fun h => h.elim (fun h => h z3.1) (fun h => z3.2 h))
  clear wo wp0 wp1 wtp ntp z z2
  have W2 : RB a B L m d M2 (we B L q) := W1.nx o3 o6 o4
  have s2 : szM M2 = szM M1 + 3 := o7
  have t2 : slM M2 = slM M1 + 4 + 2 * (we B L q - q) := o8
  have RO2 : RO K B L 0 1 3 M2 (we B L q) := ⟨by omega, by omega⟩
  have RO3 : RO K B L 0 0 0 M2 (we B L q) := ⟨by omega, by omega⟩
  have hN2 := W2.2.2.1
  have x2 : EX (szM M) M M2 := x1.tr o3 (Nat.le_of_eq s1.symm)
  have k2 : RK M M2 := k1.tr o6
  have lift : ∀ res pr, okR a B L (TrK (3 * (6 - d) + 1) K a) 0 1 3 0 M2 (we B L q) res pr → okR a B L (TrK (3 * (6 - d) + 1) K a) 200 0 0 0 M p res pr := by
    intro res pr I
    rcases pr with e | ⟨p1, c1⟩
    · obtain ⟨M', i1, i2, i3, i4, i5⟩ := I
      exact ⟨M', i1, x2.tr i2 (by omega), i3, by omega, by omega⟩
    · obtain ⟨M', r, i1, i2, i3, i4, ⟨i5, i6⟩, i7⟩ := I
      exact ⟨M', r, i1, x2.tr i2 (by omega), i3, k2.tr i4, ⟨by omega, by omega⟩, i7.to (by omega) (Nat.le_refl _) (fun _ _ _ => rfl) (Nat.le_refl _)⟩
  have lift0 : ∀ res pr, okR a B L (TrK (3 * (6 - d) + 1) K a) 0 0 0 0 M2 (we B L q) res pr → okR a B L (TrK (3 * (6 - d) + 1) K a) 0 1 3 0 M2 (we B L q) res pr := by
    intro res pr I
    rcases pr with e | ⟨p1, c1⟩
    · obtain ⟨M', i1, i2, i3, i4, i5⟩ := I
      exact ⟨M', i1, i2, i3, by omega, by omega⟩
    · obtain ⟨M', r, i1, i2, i3, i4, ⟨i5, i6⟩, i7⟩ := I
      exact ⟨M', r, i1, i2, i3, i4, ⟨by omega, by omega⟩, i7⟩
  have tbE : ∀ x : HS × (Nat ⊕ Option Nat), tb x (fun q14 => some (x.1, .inl q14)) (fun v15 => (some (x.1, .inr v15) : CRes)) = some x := fun x => by
    obtain ⟨h, y | y⟩ := x <;> rfl
  have e25 := W2.2.2.2.2
  have fi := find_o (K := K) o9 Ca hN2 R0.lt (show we B L q ≤ 1600 by omega)
  have fl := find_o (K := K) o9 Cl hN2 R0.lt (show we B L q ≤ 1600 by omega)
  rw [fd_one] at fl
  have emi := eqW (K := K) o9 Cmi hN2 R0.lt (show we B L q ≤ 1600 by omega)
  have ema := eqW (K := K) o9 Cma hN2 R0.lt (show we B L q ≤ 1600 by omega)
  have rc : rcv K (hp a M2) (some (M1.2.2.2.2.1 + 1)) 20 = some (M1.2.2.2.2.1 + 1) := by
    obtain ⟨h1, va, f, hs, hz, h2, h3, h4, h5⟩ := o9
    exact d_rcv h1 h3
  rw [stW, o2, bsm]
  simp only [tb, fi, bsm, r_g5, e25]
  have hy2 : ¬ inB a (szM M2) := fun z => by have := z.2.1; omega
  have sz2 : (hp a M2).2.1 = szM M2 := rfl
  have e23 : M2.1 9 3 = nI q := o5
  -- neither a part nor known
  have err : ∀ _ : Nat, okR a B L (TrK (3 * (6 - d) + 1) K a) 200 0 0 0 M p (some (hp a (wr M2 1 (nI q)), .inl (a + 10))) (.inl (1, q)) := by
    have sw : szM (wr M2 1 (nI q)) = szM M2 := rfl
    have tw : slM (wr M2 1 (nI q)) = slM M2 := rfl
    exact fun _ => ⟨_, rfl, x2.wr, ⟨by rw [wr, mI_n (by omega)]; exact mI_s, mI_s⟩, by omega, by omega⟩
  have w101 : ¬ WQ B q (we B L q) (wdL 81) → ¬ WQ B q (we B L q) (wdL 82) → fX2_atom_101 K (a + 9) rsC (hp a M2) (some (M1.2.2.2.2.1 + 1)) (-1 : Int32) = some (hp a (wr M2 1 (nI q)), .inl (a + 10)) := fun h1 h2 => by
    rw [if_neg h1] at emi
    rw [if_neg h2] at ema
    simp only [fX2_atom_101, if_true, rc, bsm, emi, ema, r_g3, e23, r_rcv, wrong_o, f_rcv]
  have k249 : (nI (cxN m) = (249 : Int32)) = (m = 3) := by
    have hm' : m = 0 ∨ m = 1 ∨ m = 2 ∨ m = 3 := by omega
    rcases hm' with rfl | rfl | rfl | rfl <;> decide
  cases hfd : fd B q (we B L q) askL with
  | some j =>
    obtain ⟨f1, f2⟩ := fd_s hfd
    have hj : j < 8 := f1
    have nm1 : ¬ nI j = (-1 : Int32) := by rw [nI_eqm (by omega)]; exact id
    have ab := alw_b m hm j hj
    have ch := c_has K (hp a M2) (m := cxN m) (p := j) (by omega) (by omega)
    have oj : oI (some j) = nI j := rfl
    rw [oj]
    show okR a B L _ 200 0 0 0 M p (if nI j = (-1 : Int32) then _ else _) (if alw m j then _ else _)
    rw [if_neg nm1, ch, bsm]
    simp only [nI_eq0 (show cxN m / 2 ^ j % 2 < 2 ^ 31 by omega)]
    by_cases ya : alw m j
    · rw [if_pos ya]
      have b1 := ab.1.mpr ya
      rw [if_neg (by omega)]
      exact lift _ _ (askedC W2 hj RO2)
    · rw [if_neg ya]
      have b0 : cxN m / 2 ^ j % 2 = 0 := by
        have : ¬ cxN m / 2 ^ j % 2 = 1 := fun q => ya (ab.1.mp q)
        omega
      rw [if_pos b0]
      have h85 := fd_85 hfd
      have hmm := fd_mm hfd
      by_cases y3 : m = 3 ∧ j = 2
      · rw [if_pos y3]
        rw [if_pos (h85.mpr y3.2)] at fl
        have w80 : fX2_atom_80 K (a + 9) rsC (hp a M2) (some (M1.2.2.2.2.1 + 1)) = (fX2_looked K (hp a M2) rsC (a + 9) (0 : Int32)).bind fun x13 => tb x13 (fun q14 => some (x13.1, .inl q14)) fun v15 => some (x13.1, .inr v15) := by
          simp only [fX2_atom_80, r_g5, e25, bsm, k249, if_pos y3.1, fl, oI]
          have n0 : ¬ nI 0 = (-1 : Int32) := by decide
          simp only [fX2_atom_101, if_neg n0, r_rcv, bsm]
          rfl
        rw [w80]
        have I := lift _ _ (lookedC (K := K) (q := q) W2 hd e23 I1 RO2)
        have : (fX2_looked K (hp a M2) rsC (a + 9) (0 : Int32)).bind (fun x13 => tb x13 (fun q14 => some (x13.1, .inl q14)) fun v15 => (some (x13.1, .inr v15) : CRes)) = fX2_looked K (hp a M2) rsC (a + 9) (0 : Int32) := by
          simp only [tbE]
          exact bs_ _
        rw [this]
        exact I
      · rw [if_neg y3]
        have w80 : fX2_atom_80 K (a + 9) rsC (hp a M2) (some (M1.2.2.2.2.1 + 1)) = some (hp a (wr M2 1 (nI q)), .inl (a + 10)) := by
          simp only [fX2_atom_80, r_g5, e25, bsm, k249]
          by_cases y4 : m = 3
          · rw [if_neg (fun g => y3 ⟨y4, h85.mp g⟩)] at fl
            rw [if_pos y4, fl, bsm]
            exact w101 hmm.1 hmm.2
          · rw [if_neg y4]
            exact w101 hmm.1 hmm.2
        rw [w80]
        exact err 0
  | none =>
    have n85 : ¬ WQ B q (we B L q) (wdL 85) := fd_n hfd 2 (by decide)
    rw [if_neg n85] at fl
    show okR a B L _ 200 0 0 0 M p (if (-1 : Int32) = (-1 : Int32) then _ else _) (if WQ B q (we B L q) (wdL 81) then _ else _)
    rw [if_pos rfl]
    have w80 : fX2_atom_80 K (a + 9) rsC (hp a M2) (some (M1.2.2.2.2.1 + 1)) = fX2_atom_101 K (a + 9) rsC (hp a M2) (some (M1.2.2.2.2.1 + 1)) (-1 : Int32) := by
      simp only [fX2_atom_80, r_g5, e25, bsm, k249]
      by_cases y4 : m = 3
      · rw [if_pos y4, fl, bsm]
        rfl
      · rw [if_neg y4]
    rw [w80]
    have go : ∀ k, k ≤ 2 → okR a B L (TrK (3 * (6 - d) + 1) K a) 200 0 0 0 M p (fX2_atom_159 K (a + 9) rsC (hp a M2) (nI k)) (withinP B L rsP k d (we B L q)) := fun k hk => by
      have : fX2_atom_159 K (a + 9) rsC (hp a M2) (nI k) = fX2_within K (hp a M2) rsC (a + 9) (nI k) := by
        simp only [fX2_atom_159, r_rcv, bsm, tbE]
        exact bs_ _
      rw [this]
      exact lift _ _ (lift0 _ _ (withinC (K := K) (k := k) W2 hd hk I0 hok RO3))
    by_cases y5 : WQ B q (we B L q) (wdL 81)
    · rw [if_pos y5] at emi ⊢
      have : fX2_atom_101 K (a + 9) rsC (hp a M2) (some (M1.2.2.2.2.1 + 1)) (-1 : Int32) = fX2_atom_159 K (a + 9) rsC (hp a M2) (nI 1) := by
        simp only [fX2_atom_101, if_true, rc, bsm, emi, if_neg n01, fX2_atom_143]
        rfl
      rw [this]
      exact go 1 (by omega)
    · rw [if_neg y5]
      by_cases y6 : WQ B q (we B L q) (wdL 82)
      · rw [if_pos y6] at ema ⊢
        rw [if_neg y5] at emi
        have : fX2_atom_101 K (a + 9) rsC (hp a M2) (some (M1.2.2.2.2.1 + 1)) (-1 : Int32) = fX2_atom_159 K (a + 9) rsC (hp a M2) (nI 2) := by
          simp only [fX2_atom_101, if_true, rc, bsm, emi, ema, if_neg n01, fX2_atom_143]
          rfl
        rw [this]
        exact go 2 (by omega)
      · rw [if_neg y6, w101 y5 y6]
        exact err 0
end PAT

/-! PARSER, questions -/
set_option maxRecDepth 100000
def toldL : List (List Nat) := [wdL 71, wdL 72, wdL 73, wdL 74, wdL 75, wdL 76]
/-- a question: (kind, place) of what is wrong, or (which it is, codes) -/
def quP (B : Nat → Nat) (L : Nat) : PRes :=
  if LEa B L (sk B L 0) ∧ ¬ PT B (sk B L 0) then
    (match fd B (sk B L 0) (we B L (sk B L 0)) toldL with
    | none => .inl (1, sk B L 0)
    | some w => pb (if w < 3 then testP B L 3 (psD B L 3 64) 0 (we B L (sk B L 0)) else sumP B L 3 (psD B L 3 64) 0 (we B L (sk B L 0))) fun p1 cs => if sk B L p1 < L then .inl (1, sk B L p1) else .inr (w, cs))
  else .inl (1, sk B L 0)
section PQU
variable {K : KE} {a i n k p q L m d w : Nat} {M M' M1 M2 : CM} {B : Nat → Nat} {cs c1 : List Nat} {σ σ' σ0 : MS}
/-- behind the sum or test -/
theorem qu82 (R : RD M B L p) (x : Option Nat) : fX2_question_82 K (a + 9) (hp a M) x = if sk B L p < L then some (hp a (wr (mI M 9 2 (nI (sk B L p))) 1 (nI (sk B L p))), .inl (a + 10)) else some (hp a (mI M 9 2 (nI (sk B L p))), .inr x) := by
  have hh := R.here (K := K) (a := a)
  have hL := R.2.1
  have ql := @sk_le p L B R.2.2.1
  have lt := R.lt
  generalize sk B L p = q at *
  have e2 : (mI M 9 2 (nI q)).1 9 2 = nI q := mI_s
  by_cases z : q < L
  · rw [if_pos z]
    have ch : ¬ chI B L q = (-1 : Int32) := by
      rw [chI, if_pos z, nI_eqm (by have := lt q (by omega); omega)]
      exact id
    simp only [fX2_question_82, r_rcv, bsm, hh, if_neg ch, r_g2, e2, wrong_o, f_rcv]
  · rw [if_neg z]
    have ch : chI B L q = (-1 : Int32) := by rw [chI, if_neg z]
    simp only [fX2_question_82, r_rcv, bsm, hh, if_pos ch]
/-- a question at the component -/
theorem quC (C : CW K a) (Ct : CA K a 2 toldL) (hB : BB M B) (hL : L ≤ 1600) (hz : a + 1352 ≤ szM M) (hN : ∀ y, y < a → M.2.2.2.1 y = none) (r1 : szM M + 400 * L + 40 ≤ K.2.2.1) (r2 : slM M + 4000 * L + 200 ≤ K.2.2.2) :
    match quP B L with
    | .inl e => ∃ M', fX2_question K (hp a M) (a + 9) (nI L) = some (hp a M', .inl (a + 10)) ∧ EX (szM M) M M' ∧ (M'.1 10 6 = nI e.1 ∧ M'.1 10 7 = nI e.2) ∧ szM M' ≤ szM M + 400 * L + 40 ∧ slM M' ≤ slM M + 4000 * L + 200
    | .inr (w, cs) => ∃ M' r qa t u, fX2_question K (hp a M) (a + 9) (nI L) = some (hp a M', .inr (some qa)) ∧ EX (szM M) M M' ∧ (w < 6 ∧ ¬ inB a qa ∧ szM M ≤ qa ∧ qa < szM M') ∧ M'.2.2.2.1 qa = some (.inr (18, [.int (nI w), va_rf t, va_rf u, .long (-1), .int 0])) ∧ (w < 3 ∧ t = some r ∧ TeK 15 K a (qa + 1) (szM M') M'.2.2.2.1 r cs ∨ 3 ≤ w ∧ u = some r ∧ TrK 21 K a (qa + 1) (szM M') M'.2.2.2.1 r cs) ∧ (∀ c, c ∈ cs → okd 3 c) ∧ szM M' ≤ szM M + 400 * L + 40 ∧ slM M' ≤ slM M + 4000 * L + 200 := by
  obtain ⟨M1, hM1⟩ : ∃ M1, M1 = mI (mI (mI (mI M 9 1 (nI L)) 9 2 0) 9 4 0) 9 5 249 := ⟨_, rfl⟩
  have W1 : RB a B L 3 0 M1 0 := by
    rw [hM1]
    refine ⟨⟨hB.to (by rw [mI_o (by omega), mI_o (by omega), mI_o (by omega), mI_o (by omega)]), hL, Nat.zero_le _, ?_, ?_⟩, hz, hN, ?_, ?_⟩
    · rw [mI_n (by omega), mI_n (by omega), mI_n (by omega)]; exact mI_s
    · rw [mI_n (by omega), mI_n (by omega)]; exact mI_s
    · rw [mI_n (by omega)]; exact mI_s
    · rw [mI_s]; rfl
  have x1 : EX (szM M) M M1 := by rw [hM1]; exact ((((EX.refl M).si (Or.inl rfl)).si (Or.inl rfl)).si (Or.inl rfl)).si (Or.inl rfl)
  have s1 : szM M1 = szM M := by rw [hM1]; rfl
  have t1 : slM M1 = slM M := by rw [hM1]; rfl
  have qg := @sk_ge 0 L B
  have ql := @sk_le 0 L B (Nat.zero_le _)
  have wpe := wn_e (B := B) (L := L) (p := 0)
  have wp0 := @wn_le 0 L B (Nat.zero_le _)
  have wp1 := fun h => wn_1 (B := B) (L := L) (p := 0) h
  have wl0 := @we_le (sk B L 0) L B ql
  have ra : szM M1 + 3 ≤ K.2.2.1 := by omega
  have rb : slM M1 + 4 + 2 * (we B L (sk B L 0) - sk B L 0) ≤ K.2.2.2 := by omega
  have wo := fun _ : Nat => word_o (K := K) (a := a) W1.1 W1.2.1 ra rb
  have base : fX2_question K (hp a M) (a + 9) (nI L) = (fX2_word K (hp a M1) (a + 9)).bind fun x6 => tb x6 (fun q7 => some (x6.1, .inl q7)) fun v8 => (fX0_find K x6.1 v8 (K.2.1 2)).bind fun x10 => if x10 = (-1 : Int32) then (gI K x6.1 (some (a + 9)) 2 3).bind fun v27 => (rcv K x6.1 (some (a + 9)) 2).bind fun b28 => (fX2_wrong K x6.1 b28 (1 : Int32) v27).bind fun x29 => (rcv K x29.1 x29.2 3).bind fun q30 => some (x29.1, .inl q30) else if (3 : Int32) ≤ x10 then (alc K x6.1 (.inr (18, df18)) 5).bind fun h13 => (rcv K h13 (some (a + 9)) 2).bind fun b14 => (fX2_sum K h13 (rsD K 64) b14).bind fun x15 => tb x15 (fun q16 => some (x15.1, .inl q16)) fun v17 => (fX21_init K x15.1 x6.1.2.1 x10 none v17).bind fun x19 => fX2_question_82 K (a + 9) x19 (some x6.1.2.1) else (alc K x6.1 (.inr (18, df18)) 5).bind fun h20 => (rcv K h20 (some (a + 9)) 2).bind fun b21 => (fX2_test K h20 (rsD K 64) b21).bind fun x22 => tb x22 (fun q23 => some (x22.1, .inl q23)) fun v24 => (fX21_init K x22.1 x6.1.2.1 x10 v24 none).bind fun x26 => fX2_question_82 K (a + 9) x26 (some x6.1.2.1) := by
    simp only [fX2_question, r_p1, bsm, r_p2, r_p4, r_p5, r_rcv, ← hM1]
  unfold quP
  rw [base]
  obtain ⟨q, hq⟩ : ∃ q, sk B L 0 = q := ⟨_, rfl⟩
  rw [hq] at qg ql wpe wp1 wo wl0 rb ⊢
  have hq' : sk B L q = q := by rw [← hq]; exact sk_sk
  by_cases z3 : LEa B L q ∧ ¬ PT B q
  rotate_left
  · rw [if_neg z3]
    have bad : ∃ M', fX2_word K (hp a M1) (a + 9) = some (hp a M', .inl (a + 10)) ∧ M'.2 = M1.2 ∧ EX M1.2.2.2.2.1 M1 M' ∧ M'.1 10 6 = 1 ∧ M'.1 10 7 = nI q := by
      rcases wo 0 with ⟨-, o2⟩ | ⟨o1, -⟩
      · exact o2
      · exact absurd o1 z3
    clear wo
    obtain ⟨M', o2, o3, o4, o5, o6⟩ := bad
    have s' : szM M' = szM M1 := by rw [show szM M' = M'.2.2.2.2.1 from rfl, o3]
    have t' : slM M' = slM M1 := by rw [show slM M' = M'.2.2.2.2.2 from rfl, o3]
    refine ⟨M', ?_, x1.tr o4 (Nat.le_of_eq s1.symm), ⟨o5, o6⟩, by omega, by omega⟩
    rw [o2, bsm]
    rfl
  rw [if_pos z3]
  have y1 := wp1 z3.1
  rcases wo 0 with ⟨o1, -⟩ | ⟨-, M2, o2, o3, o4, o5, o6, o7, o8, o9⟩
  · exact absurd o1 (fun h => h.elim (fun h => h z3.1) (fun h => z3.2 h))
  clear wo wp1
  have wl := @we_le q L B ql
  have W2 : RB a B L 3 0 M2 (we B L q) := W1.nx o3 o6 o4
  have s2 : szM M2 = szM M1 + 3 := o7
  have t2 : slM M2 = slM M1 + 4 + 2 * (we B L q - q) := o8
  have x2 : EX (szM M) M M2 := x1.tr o3 (Nat.le_of_eq s1.symm)
  have fi := find_o (K := K) o9 Ct W2.2.2.1 W1.1.lt (show we B L q ≤ 1600 by omega)
  have hy2 : ¬ inB a (szM M2) := fun z => by have := z.2.1; omega
  have sz2 : (hp a M2).2.1 = szM M2 := rfl
  have e23 : M2.1 9 3 = nI q := o5
  rw [o2, bsm]
  simp only [tb, fi, bsm]
  cases hfd : fd B q (we B L q) toldL with
  | none =>
    have oj : oI none = (-1 : Int32) := rfl
    rw [oj, if_pos rfl]
    have sw : szM (wr M2 1 (nI q)) = szM M2 := rfl
    have tw : slM (wr M2 1 (nI q)) = slM M2 := rfl
    refine ⟨wr M2 1 (nI q), ?_, x2.wr, ⟨by rw [wr, mI_n (by omega)]; exact mI_s, mI_s⟩, by omega, by omega⟩
    simp only [r_g3, e23, bsm, r_rcv, wrong_o, f_rcv]
  | some w =>
    have hw : w < 6 := (fd_s hfd).1
    have nm1 : ¬ nI w = (-1 : Int32) := by rw [nI_eqm (by omega)]; exact id
    have oj : oI (some w) = nI w := rfl
    rw [oj, if_neg nm1]
    have k3 : ((3 : Int32) ≤ nI w) = (3 ≤ w) := nI_leE (a := 3) (by omega) (by omega)
    obtain ⟨M3, hM3⟩ : ∃ M3, M3 = mA M2 (.inr (18, df18)) 5 := ⟨_, rfl⟩
    have al3 : alc K (hp a M2) (.inr (18, df18)) 5 = some (hp a M3) := by rw [hM3]; exact d_al hy2 (by omega) (by omega)
    have s3 : szM M3 = szM M2 + 1 := by rw [hM3]; rfl
    have t3 : slM M3 = slM M2 + 5 := by rw [hM3]; rfl
    have x23 : EX (szM M2) M2 M3 := by rw [hM3]; exact ((FX.refl (fun _ => False) M2).mA).ex (fun _ q => absurd q id) (Nat.le_refl _)
    have m31 : M3.1 = M2.1 := by rw [hM3]; rfl
    have W3 : RB a B L 3 0 M3 (we B L q) := W2.cl m31 x23 (by omega)
    have x3 : EX (szM M) M M3 := x2.tr x23 (by omega)
    have hD3 : M3.2.2.2.1 (szM M2) = some (.inr (18, df18)) := by rw [hM3]; exact A_s
    have wl3 := @wn_le (we B L q) L B wl
    have hok : 0 ≠ 6 → ∀ t p, p ≤ L → okP B L 3 p (psD B L 3 64 t (0 + 1) p) := fun h t p hp => psD_ok 64 t 1 p (by omega) (by omega) hp
    -- the end, alike for sums and tests
    have fin : ∀ (M4 : CM) (p1 r : Nat) (t u : Option Nat) (cs : List Nat), EX (szM M3) M3 M4 → RD M4 B L p1 → (t = some r ∧ u = none ∨ t = none ∧ u = some r) → szM M4 + 400 * (L - p1) ≤ szM M3 + 400 * (L - we B L q) + 22 + 12 * wn B L p1 → slM M4 + 4000 * (L - p1) ≤ slM M3 + 4000 * (L - we B L q) + 80 + 12 * wn B L p1 → p1 ≤ L → (w < 3 ∧ t = some r ∧ TeK 15 K a (szM M3) (szM M4) M4.2.2.2.1 r cs ∨ 3 ≤ w ∧ u = some r ∧ TrK 21 K a (szM M3) (szM M4) M4.2.2.2.1 r cs) → (∀ c, c ∈ cs → okd 3 c) → (match (if sk B L p1 < L then (.inl (1, sk B L p1) : PRes) else .inr (w, cs)) with
        | .inl e => ∃ M', ((fX21_init K (hp a M4) (szM M2) (nI w) t u).bind fun x19 => fX2_question_82 K (a + 9) x19 (some (szM M2))) = some (hp a M', .inl (a + 10)) ∧ EX (szM M) M M' ∧ (M'.1 10 6 = nI e.1 ∧ M'.1 10 7 = nI e.2) ∧ szM M' ≤ szM M + 400 * L + 40 ∧ slM M' ≤ slM M + 4000 * L + 200
        | .inr (w', cs') => ∃ M' r qa t' u', ((fX21_init K (hp a M4) (szM M2) (nI w) t u).bind fun x19 => fX2_question_82 K (a + 9) x19 (some (szM M2))) = some (hp a M', .inr (some qa)) ∧ EX (szM M) M M' ∧ (w' < 6 ∧ ¬ inB a qa ∧ szM M ≤ qa ∧ qa < szM M') ∧ M'.2.2.2.1 qa = some (.inr (18, [.int (nI w'), va_rf t', va_rf u', .long (-1), .int 0])) ∧ (w' < 3 ∧ t' = some r ∧ TeK 15 K a (qa + 1) (szM M') M'.2.2.2.1 r cs' ∨ 3 ≤ w' ∧ u' = some r ∧ TrK 21 K a (qa + 1) (szM M') M'.2.2.2.1 r cs') ∧ (∀ c, c ∈ cs' → okd 3 c) ∧ szM M' ≤ szM M + 400 * L + 40 ∧ slM M' ≤ slM M + 4000 * L + 200) := by
      intro M4 p1 r t u cs g1 g2 g3 g4 g5 g6 g7 g8
      have ez : szM M3 ≤ szM M4 := g1.2.2.2.2.1
      have wlp := @wn_le p1 L B g6
      have D4 : M4.2.2.2.1 (szM M2) = some (.inr (18, df18)) := by rw [g1.2.2.2.1 (szM M2) (by omega)]; exact hD3
      have p1' : pV (hp a M4) (some (szM M2)) 18 3 (.long (-1 : Int64)) = some (hp a (mD M4 (szM M2) (some (.inr (18, [.int 0, .null, .null, .long (-1), .int 0]))))) := d_pV hy2 D4 (by decide)
      have p2' : pV (hp a (mD M4 (szM M2) (some (.inr (18, [.int 0, .null, .null, .long (-1), .int 0]))))) (some (szM M2)) 18 0 (.int (nI w)) = some (hp a (mD (mD M4 (szM M2) (some (.inr (18, [.int 0, .null, .null, .long (-1), .int 0])))) (szM M2) (some (.inr (18, [.int (nI w), .null, .null, .long (-1), .int 0]))))) := d_pV hy2 D_s (Nat.le_of_ble_eq_true rfl)
      rw [mD_mD] at p2'
      have p3' : pV (hp a (mD M4 (szM M2) (some (.inr (18, [.int (nI w), .null, .null, .long (-1), .int 0]))))) (some (szM M2)) 18 1 (va_rf t) = some (hp a (mD (mD M4 (szM M2) (some (.inr (18, [.int (nI w), .null, .null, .long (-1), .int 0])))) (szM M2) (some (.inr (18, [.int (nI w), va_rf t, .null, .long (-1), .int 0]))))) := d_pV hy2 D_s (Nat.le_of_ble_eq_true rfl)
      rw [mD_mD] at p3'
      have p4' : pV (hp a (mD M4 (szM M2) (some (.inr (18, [.int (nI w), va_rf t, .null, .long (-1), .int 0]))))) (some (szM M2)) 18 2 (va_rf u) = some (hp a (mD (mD M4 (szM M2) (some (.inr (18, [.int (nI w), va_rf t, .null, .long (-1), .int 0])))) (szM M2) (some (.inr (18, [.int (nI w), va_rf t, va_rf u, .long (-1), .int 0]))))) := d_pV hy2 D_s (Nat.le_of_ble_eq_true rfl)
      rw [mD_mD] at p4'
      obtain ⟨M5, hM5⟩ : ∃ M5, M5 = mD M4 (szM M2) (some (.inr (18, [.int (nI w), va_rf t, va_rf u, .long (-1), .int 0]))) := ⟨_, rfl⟩
      rw [← hM5] at p4'
      have ini : fX21_init K (hp a M4) (szM M2) (nI w) t u = some (hp a M5) := by
        simp only [fX21_init, p1', bsm, p2', p3', p4']
      have m51 : M5.1 = M4.1 := by rw [hM5]; rfl
      have s5 : szM M5 = szM M4 := by rw [hM5]; rfl
      have t5 : slM M5 = slM M4 := by rw [hM5]; rfl
      have R5 : RD M5 B L p1 := ⟨g2.1.to (by rw [m51]), g2.2.1, g2.2.2.1, by rw [m51]; exact g2.2.2.2.1, by rw [m51]; exact g2.2.2.2.2⟩
      have x45 : EX (szM M2) M4 M5 := by
        rw [hM5]
        exact ((FX.refl (fun y => y = szM M2) M4).mD (fun _ => rfl)).ex (fun y q => by omega) (by omega)
      have x5 : EX (szM M) M M5 := x3.tr ((g1.wk (show szM M2 ≤ szM M3 by omega)).tr x45 (Nat.le_refl _)) (by omega)
      have q82 := qu82 (K := K) (a := a) R5 (some (szM M2))
      rw [ini, bsm, q82]
      by_cases y : sk B L p1 < L
      · simp only [if_pos y]
        have sw : szM (wr (mI M5 9 2 (nI (sk B L p1))) 1 (nI (sk B L p1))) = szM M5 := rfl
        have tw : slM (wr (mI M5 9 2 (nI (sk B L p1))) 1 (nI (sk B L p1))) = slM M5 := rfl
        exact ⟨_, rfl, (x5.si (Or.inl rfl)).wr, ⟨by rw [wr, mI_n (by omega)]; exact mI_s, mI_s⟩, by omega, by omega⟩
      · simp only [if_neg y]
        have sw : szM (mI M5 9 2 (nI (sk B L p1))) = szM M5 := rfl
        have tw : slM (mI M5 9 2 (nI (sk B L p1))) = slM M5 := rfl
        have D5 : ∀ y, szM M3 ≤ y → M5.2.2.2.1 y = M4.2.2.2.1 y := fun y hy => by rw [hM5, D_n (by omega)]
        refine ⟨mI M5 9 2 (nI (sk B L p1)), r, szM M2, t, u, rfl, x5.si (Or.inl rfl), ⟨hw, hy2, by omega, by omega⟩, by show M5.2.2.2.1 (szM M2) = _; rw [hM5]; exact D_s, ?_, g8, by omega, by omega⟩
        rcases g7 with ⟨h1, h2, h3⟩ | ⟨h1, h2, h3⟩
        · exact Or.inl ⟨h1, h2, h3.to (by omega) (by omega) (fun y h1 h2 => D5 y h1) (Nat.le_refl _)⟩
        · exact Or.inr ⟨h1, h2, h3.to (by omega) (by omega) (fun y h1 h2 => D5 y h1) (Nat.le_refl _)⟩
    show (match (pb (if w < 3 then testP B L 3 (psD B L 3 64) 0 (we B L q) else sumP B L 3 (psD B L 3 64) 0 (we B L q)) fun p1 cs => if sk B L p1 < L then (.inl (1, sk B L p1) : PRes) else .inr (w, cs)) with | .inl e => _ | .inr (w, cs) => _)
    simp only [k3, al3, bsm, r_rcv, sz2]
    by_cases z : 3 ≤ w
    · rw [if_pos z, if_neg (show ¬ w < 3 by omega)]
      have J := sum64 (K := K) C (by omega) W3 ⟨by omega, by omega⟩
      have ok := sum_ok (B := B) (m := 3) (rs := psD B L 3 64) (d := 0) wl hok
      cases hpr : sumP B L 3 (psD B L 3 64) 0 (we B L q) with
      | inl e =>
        rw [hpr] at J
        obtain ⟨M', i1, i2, i3, i4, i5⟩ := J
        refine ⟨M', ?_, x3.tr i2 (by omega), i3, by omega, by omega⟩
        simp only [i1, bsm, tb]
      | inr e =>
        obtain ⟨p1, cs⟩ := e
        rw [hpr] at J ok
        obtain ⟨M4, r, i1, i2, i3, i4, ⟨i5, i6⟩, i7⟩ := J
        rw [i1, bsm]
        exact fin M4 p1 r none (some r) cs i2 i3 (Or.inr ⟨rfl, rfl⟩) (by omega) (by omega) ok.1.2.1 (Or.inr ⟨z, rfl, i7⟩) ok.2.2
    · rw [if_neg z, if_pos (show w < 3 by omega)]
      have J := test64 (K := K) C (by omega) W3 ⟨by omega, by omega⟩
      have ok := test_ok (B := B) (m := 3) (rs := psD B L 3 64) (d := 0) wl hok
      cases hpr : testP B L 3 (psD B L 3 64) 0 (we B L q) with
      | inl e =>
        rw [hpr] at J
        obtain ⟨M', i1, i2, i3, i4, i5⟩ := J
        refine ⟨M', ?_, x3.tr i2 (by omega), i3, by omega, by omega⟩
        simp only [i1, bsm, tb]
      | inr e =>
        obtain ⟨p1, cs⟩ := e
        rw [hpr] at J ok
        obtain ⟨M4, r, i1, i2, i3, i4, ⟨i5, i6⟩, i7⟩ := J
        rw [i1, bsm]
        exact fin M4 p1 r (some r) none cs i2 i3 (Or.inl ⟨rfl, rfl⟩) (by omega) (by omega) ok.1.2.1 (Or.inl ⟨by omega, rfl, i7⟩) ok.2.2
end PQU

/-! PARSER, a word becomes a String -/
set_option maxRecDepth 100000
theorem ch_v : ∀ c, c < 128 → vp_nar .char (((nI c).toInt8.toInt32.toUInt32 % 65536).toInt32) = nI c ∧ vp_nar .byte (nI c).toInt8.toInt32 = nI c := by decide +kernel
theorem mD_mD {M : CM} {y : Nat} {e f : Option HE} : mD (mD M y e) y f = mD M y f := by
  have : va_up (va_up M.2.2.2.1 y e) y f = va_up M.2.2.2.1 y f := by
    funext z
    by_cases h : z = y <;> simp [va_up, h]
  unfold mD
  simp only [this]
theorem mA_mD {M : CM} {e f : HE} {n : Nat} : mD (mA M e n) M.2.2.2.2.1 (some f) = mA M f n := by
  have : va_up (va_up M.2.2.2.1 M.2.2.2.2.1 (some e)) M.2.2.2.2.1 (some f) = va_up M.2.2.2.1 M.2.2.2.2.1 (some f) := by
    funext z
    by_cases h : z = M.2.2.2.2.1 <;> simp [va_up, h]
  unfold mD mA
  simp only [this]
section PW2
variable {K : KE} {a i n k p q e L : Nat} {M M' : CM} {σ σ' : MS} {B : Nat → Nat}
/-- the letters are written -/
theorem word76 (R : RD M B L e) (hy : ¬ inB a M.2.2.2.2.1) (hl : ∀ k, q ≤ k → k < e → LEa B L k) (hq : q ≤ e) (e3 : M.1 9 3 = nI q) : ∀ (d k fu : Nat) (g : Nat → Int32), k + d = e → q ≤ k → d < fu → (∀ i, i < k - q → g i = nI (B (q + i))) → ∃ g', (∀ i, i < e - q → g' i = nI (B (q + i))) ∧ fX2_word_76 K (a + 9) fu (hp a (mA M (iA 2 (e - q) g) (e - q))) (some M.2.2.2.2.1) (nI k) = (fJ6_valueOf K (hp a (mA M (iA 2 (e - q) g') (e - q))) (some M.2.2.2.2.1)).bind fun x3 => some (x3.1, .inr x3.2) := by
  have hL := R.2.1
  have he := R.2.2.1
  intro d
  induction d with
  | zero =>
    intro k fu g hk hqk hf hg
    obtain ⟨n, rfl⟩ : ∃ n, fu = n + 1 := ⟨fu - 1, by omega⟩
    obtain rfl : k = e := by omega
    have e2 : (mA M (iA 2 (k - q) g) (k - q)).1 9 2 = nI k := R.2.2.2.2
    refine ⟨g, hg, ?_⟩
    simp only [fX2_word_76, r_g2, e2, bsm, nI_leE (show k < 2 ^ 31 by omega) (show k < 2 ^ 31 by omega), Nat.le_refl, if_true]
  | succ d ih =>
    intro k fu g hk hqk hf hg
    obtain ⟨n, rfl⟩ : ∃ n, fu = n + 1 := ⟨fu - 1, by omega⟩
    have e2 : (mA M (iA 2 (e - q) g) (e - q)).1 9 2 = nI e := R.2.2.2.2
    have e3' : (mA M (iA 2 (e - q) g) (e - q)).1 9 3 = nI q := e3
    have lk := hl k hqk (by omega)
    have e8 : (mA M (iA 2 (e - q) g) (e - q)).1 8 k = (nI (B k)).toInt8.toInt32 := R.1.2 k (by omega)
    have cv := (ch_v (B k) (by have := lk.2; omega)).1
    obtain ⟨g', h1, h2⟩ := ih (k + 1) n (upd g (k - q) (nI (B k))) (by omega) (by omega) (by omega) (fun i hi => by
      by_cases z : i = k - q
      · subst z
        simp only [upd, if_true]
        exact congrArg (fun z => nI (B z)) (by omega)
      · simp only [upd, if_neg z]
        exact hg i (by omega))
    refine ⟨g', h1, ?_⟩
    rw [← h2]
    simp only [fX2_word_76, r_g2, e2, bsm, nI_leE (show e < 2 ^ 31 by omega) (show k < 2 ^ 31 by omega), if_neg (show ¬ e ≤ k by omega), r_g3, e3', r_g7, x_g1, c_tape (show k < 1600 by omega), e8, cv, nI_sub hqk, d_sC (M := mA M (iA 2 (e - q) g) (e - q)) hy A_s (show k - q < e - q by omega) (show e - q < 2 ^ 31 by omega), mA_mD, nI_1]
/-- letters become bytes -/
theorem compress_o {y : Nat} {g : Nat → Int32} (hy : ¬ inB a M.2.2.2.2.1) (hyy : y < M.2.2.2.2.1) (hy2 : ¬ inB a y) (hD : M.2.2.2.1 y = some (iA 2 n g)) (hn : n ≤ 1600) (hg : ∀ i, i < n → ∃ c, c < 128 ∧ g i = nI c) : ∀ (d k fu : Nat) (f : Nat → Int32), k + d = n → d < fu → (∀ i, i < k → f i = g i) → ∃ f', (∀ i, i < n → f' i = g i) ∧ fJ7_compress_2_3 K fu (hp a (mA M (iA 3 n f) n)) (some y) (nI k) (some M.2.2.2.2.1) (nI k) (nI n) (nI k) = some (hp a (mA M (iA 3 n f') n), nI n) := by
  intro d
  induction d with
  | zero =>
    intro k fu f hk hf hh
    obtain ⟨m, rfl⟩ : ∃ n, fu = n + 1 := ⟨fu - 1, by omega⟩
    obtain rfl : k = n := by omega
    refine ⟨f, hh, ?_⟩
    simp only [fJ7_compress_2_3, nI_leE (show k < 2 ^ 31 by omega) (show k < 2 ^ 31 by omega), Nat.le_refl, if_true]
  | succ d ih =>
    intro k fu f hk hf hh
    obtain ⟨m, rfl⟩ : ∃ n, fu = n + 1 := ⟨fu - 1, by omega⟩
    obtain ⟨c, c1, c2⟩ := hg k (by omega)
    have cv := (ch_v c c1).2
    have hD' : (mA M (iA 3 n f) n).2.2.2.1 y = some (iA 2 n g) := by rw [A_n (by omega)]; exact hD
    obtain ⟨f', h1, h2⟩ := ih (k + 1) m (upd f k (nI c)) (by omega) (by omega) (fun i hi => by
      by_cases z : i = k
      · subst z
        simp only [upd, if_true, c2]
      · simp only [upd, if_neg z]
        exact hh i (by omega))
    refine ⟨f', h1, ?_⟩
    rw [← h2]
    have k255 : (nI c ≤ (255 : Int32)) = True := by
      rw [show (255 : Int32) = nI 255 from rfl, nI_leE (by omega) (by omega)]
      exact eq_true (by omega)
    simp only [fJ7_compress_2_3, nI_leE (show n < 2 ^ 31 by omega) (show k < 2 ^ 31 by omega), if_neg (show ¬ n ≤ k by omega), d_cI (K := K) (M := mA M (iA 3 n f) n) hy2 hD' (show k < n by omega) (by omega), bsm, c2, k255, if_true, cv, d_sC (M := mA M (iA 3 n f) n) hy A_s (show k < n by omega) (show n < 2 ^ 31 by omega), mA_mD, nI_1]
theorem valueOf_o {y : Nat} {g : Nat → Int32} (hb : a + 1352 ≤ M.2.2.2.2.1) (hyy : y < M.2.2.2.2.1) (hy2 : ¬ inB a y) (hD : M.2.2.2.1 y = some (iA 2 n g)) (hn0 : 0 < n) (hn : n ≤ 1600) (hg : ∀ i, i < n → ∃ c, c < 128 ∧ g i = nI c) (r1 : M.2.2.2.2.1 + 2 ≤ K.2.2.1) (r2 : M.2.2.2.2.2 + 4 + n ≤ K.2.2.2) : ∃ f, (∀ i, i < n → f i = g i) ∧ fJ6_valueOf K (hp a M) (some y) = some (hp a (mD (mA (mA M (.inr (20, df20)) 4) (iA 3 n f) n) M.2.2.2.2.1 (some (.inr (20, [.ref (M.2.2.2.2.1 + 1), .int 0, .int 0, .int 0])))), some M.2.2.2.2.1) := by
  have hy : ¬ inB a M.2.2.2.2.1 := fun z => by have := z.2.1; omega
  obtain ⟨M1, hM1⟩ : ∃ M1, M1 = mA M (.inr (20, df20)) 4 := ⟨_, rfl⟩
  have s1 : M1.2.2.2.2.1 = M.2.2.2.2.1 + 1 := by rw [hM1]; rfl
  have s2 : M1.2.2.2.2.2 = M.2.2.2.2.2 + 4 := by rw [hM1]; rfl
  have hy1 : ¬ inB a M1.2.2.2.2.1 := fun z => by have := z.2.1; omega
  have D1 : M1.2.2.2.1 y = some (iA 2 n g) := by rw [hM1, A_n (by omega)]; exact hD
  have D2 : M1.2.2.2.1 M.2.2.2.2.1 = some (.inr (20, df20)) := by rw [hM1]; exact A_s
  obtain ⟨f, f1, f2⟩ := compress_o (K := K) (M := M1) hy1 (by omega) hy2 D1 hn hg n 0 FU (fun _ => 0) (by omega) (FU_lt (by omega)) (fun i hi => absurd hi (by omega))
  refine ⟨f, f1, ?_⟩
  have a1 : alc K (hp a M) (.inr (20, df20)) 4 = some (hp a M1) := by rw [hM1]; exact d_alc hy (by omega) (by omega)
  have c1 : cN K (hp a M1) (some y) 2 = some (nI n) := d_cN hy2 D1
  have n0 : ¬ nI n = 0 := by rw [nI_eq0 (by omega)]; omega
  have cp : fJ7_compress K (hp a M1) (some y) 0 (nI n) = some (hp a (mA M1 (iA 3 n f) n), some M1.2.2.2.2.1) := by
    have e1 : nA K (hp a M1) 3 (.inl (fun _ => 0)) (nI n) = some (hp a (mA M1 (iA 3 n (fun _ => 0)) n)) := nA_o hy1 (by omega) (by omega) hn
    have e2 : fJ7_compress_2 K (hp a (mA M1 (iA 3 n (fun _ => 0)) n)) (some y) 0 (some M1.2.2.2.2.1) 0 (nI n) = some (hp a (mA M1 (iA 3 n f) n), nI n) := f2
    have e3 : (hp a M1).2.1 = M1.2.2.2.2.1 := rfl
    simp only [fJ7_compress, e1, bsm, e3, e2, if_true]
  have D3 : (mA M1 (iA 3 n f) n).2.2.2.1 M.2.2.2.2.1 = some (.inr (20, df20)) := by rw [A_n (by omega)]; exact D2
  have cN3 : cN K (hp a (mA M1 (iA 3 n f) n)) (some M1.2.2.2.2.1) 3 = some (nI n) := d_cN hy1 A_s
  have co : fJ7_coderFromArrayLen K (hp a (mA M1 (iA 3 n f) n)) (some M1.2.2.2.2.1) (nI n) = some 0 := by
    simp only [fJ7_coderFromArrayLen, cN3, bsm]
    rw [Int32.sub_self]
    decide
  have br0 : br 0 = some 0 := by decide
  have p1 := d_pV (v := .int 0) (k := 1) hy D3 (by decide)
  have D4 : (mD (mA M1 (iA 3 n f) n) M.2.2.2.2.1 (some (.inr (20, df20.set 1 (.int 0))))).2.2.2.1 M.2.2.2.2.1 = some (.inr (20, df20.set 1 (.int 0))) := D_s
  have p2 := d_pV (v := va_rf (some M1.2.2.2.2.1)) (k := 0) hy D4 (by decide)
  rw [mD_mD] at p2
  have e3 : (hp a M).2.1 = M.2.2.2.2.1 := rfl
  have i2 : fJ6_init_2 K (hp a M1) M.2.2.2.2.1 (some y) 0 (nI n) none = some (hp a (mD (mA M1 (iA 3 n f) n) M.2.2.2.2.1 (some (.inr (20, [.ref (M.2.2.2.2.1 + 1), .int 0, .int 0, .int 0]))))) := by
    simp only [fJ6_init_2, if_neg n0, if_neg (show ¬ (1 : Int32) = 0 by decide), cp, bsm, co, br0, p1, p2]
    rw [s1]
    rfl
  rw [← hM1]
  simp only [fJ6_valueOf, a1, bsm, e3, fJ6_init, c1, i2]
/-- what reading leaves alone: from cell s on all is new -/
def EX (s : Nat) (M M' : CM) : Prop := (∀ o, o ≠ 9 → o ≠ 10 → M'.1 o = M.1 o) ∧ M'.2.1 = M.2.1 ∧ M'.2.2.1 = M.2.2.1 ∧ (∀ y, y < s → M'.2.2.2.1 y = M.2.2.2.1 y) ∧ M.2.2.2.2.1 ≤ M'.2.2.2.2.1 ∧ M.2.2.2.2.2 ≤ M'.2.2.2.2.2
/-- a word's hash, and a String's memory of it -/
def hsF (B : Nat → Nat) (q : Nat) : Nat → Int32
  | 0 => 0
  | n + 1 => 31 * hsF B q n + nI (B (q + n))
def HC (x hs hz : Int32) : Prop := (hs = 0 ∧ hz = 0) ∨ (hs = x ∧ x ≠ 0) ∨ (hs = 0 ∧ hz = 1 ∧ x = 0)
/-- the word from q to e, kept as a String at y -/
def StO (a : Nat) (D : Nat → Option HE) (B : Nat → Nat) (q e y : Nat) : Prop := ¬ inB a y ∧ ∃ (va : Nat) (f : Nat → Int32) (hs hz : Int32), ¬ inB a va ∧ D y = some (.inr (20, [.ref va, .int 0, .int hs, .int hz])) ∧ D va = some (iA 3 (e - q) f) ∧ (∀ i, i < e - q → f i = nI (B (q + i))) ∧ HC (hsF B q (e - q)) hs hz
theorem word_o (R : RD M B L p) (hb : a + 1352 ≤ M.2.2.2.2.1) (r1 : M.2.2.2.2.1 + 3 ≤ K.2.2.1) (r2 : M.2.2.2.2.2 + 4 + 2 * (we B L (sk B L p) - sk B L p) ≤ K.2.2.2) :
    (¬ LEa B L (sk B L p) ∨ PT B (sk B L p)) ∧ (∃ M', fX2_word K (hp a M) (a + 9) = some (hp a M', .inl (a + 10)) ∧ M'.2 = M.2 ∧ EX M.2.2.2.2.1 M M' ∧ M'.1 10 6 = 1 ∧ M'.1 10 7 = nI (sk B L p)) ∨
    (LEa B L (sk B L p) ∧ ¬ PT B (sk B L p)) ∧ ∃ M', fX2_word K (hp a M) (a + 9) = some (hp a M', .inr (some (M.2.2.2.2.1 + 1))) ∧ EX M.2.2.2.2.1 M M' ∧ RD M' B L (we B L (sk B L p)) ∧ M'.1 9 3 = nI (sk B L p) ∧ (∀ k, k ≠ 2 → k ≠ 3 → M'.1 9 k = M.1 9 k) ∧ M'.2.2.2.2.1 = M.2.2.2.2.1 + 3 ∧ M'.2.2.2.2.2 = M.2.2.2.2.2 + 4 + 2 * (we B L (sk B L p) - sk B L p) ∧ StO a M'.2.2.2.1 B (sk B L p) (we B L (sk B L p)) (M.2.2.2.2.1 + 1) := by
  have hL := R.2.1
  have hp' := R.2.2.1
  obtain ⟨q, hq⟩ : ∃ q, sk B L p = q := ⟨_, rfl⟩
  have ql : q ≤ L := by rw [← hq]; exact sk_le hp'
  have R1 := R.mv ql
  have hh := R.here (K := K) (a := a)
  rw [hq] at hh r2 ⊢
  have l1 := (ltI (K := K) (σ := (fun _ => 0, fun _ => 0, fun _ _ => 0, fun _ _ => 0)) (p := q) R.lt hL (hp a (mI M 9 2 (nI q)))).1
  by_cases z : LEa B L q
  rotate_left
  · refine Or.inl ⟨Or.inl z, wr (mI M 9 2 (nI q)) 1 (nI q), ?_, rfl, ⟨fun o h1 h2 => by rw [wr, mI_o h2, mI_o h2, mI_o h1], rfl, rfl, fun _ _ => rfl, Nat.le_refl _, Nat.le_refl _⟩, by rw [wr, mI_n (by omega)]; exact mI_s, mI_s⟩
    simp only [fX2_word, r_rcv, bsm, hh, l1, if_neg z, if_true, r_g2, mI_s, wrong_o, f_rcv]
  have po := parted_o (K := K) (a := a) R1
  by_cases z2 : PT B q
  · rw [if_pos z2] at po
    refine Or.inl ⟨Or.inr z2, wr (mI M 9 2 (nI q)) 1 (nI q), ?_, rfl, ⟨fun o h1 h2 => by rw [wr, mI_o h2, mI_o h2, mI_o h1], rfl, rfl, fun _ _ => rfl, Nat.le_refl _, Nat.le_refl _⟩, by rw [wr, mI_n (by omega)]; exact mI_s, mI_s⟩
    simp only [fX2_word, r_rcv, bsm, hh, l1, if_pos z, if_neg n01, po, tb]
  rw [if_neg z2] at po
  refine Or.inr ⟨⟨z, z2⟩, ?_⟩
  obtain ⟨e, he⟩ : ∃ e, we B L q = e := ⟨_, rfl⟩
  have qe : q < e := by rw [← he]; exact we_gt z
  have el : e ≤ L := by rw [← he]; exact we_le ql
  have hin : ∀ k, q ≤ k → k < e → LEa B L k := fun k h1 h2 => we_in h1 (by rw [he]; exact h2)
  rw [he] at r2 ⊢
  have hy : ¬ inB a M.2.2.2.2.1 := fun z => by have := z.2.1; omega
  have R2 : RD (mI (mI M 9 2 (nI q)) 9 3 (nI q)) B L q := ⟨R1.1.to (mI_o (by omega)), hL, ql, by rw [mI_n (by omega)]; exact R1.2.2.2.1, by rw [mI_n (by omega)]; exact R1.2.2.2.2⟩
  have w32 := word32 (K := K) (a := a) (q := q) (L - q) q FU (mI (mI M 9 2 (nI q)) 9 3 (nI q)) (Nat.le_refl _) (FU_lt (by omega)) R2 mI_s (Nat.le_refl _) hy (by show M.2.2.2.2.1 + 1 ≤ _; omega) (by rw [he]; show M.2.2.2.2.2 + _ ≤ _; omega)
  rw [he] at w32
  obtain ⟨M2, hM2⟩ : ∃ M2, M2 = mI (mI (mI M 9 2 (nI q)) 9 3 (nI q)) 9 2 (nI e) := ⟨_, rfl⟩
  have R3 : RD M2 B L e := by rw [hM2]; exact R2.mv el
  have m22 : M2.2 = M.2 := by rw [hM2]; rfl
  have m3 : M2.1 9 3 = nI q := by rw [hM2, mI_n (by omega)]; exact mI_s
  have mk : ∀ k, k ≠ 2 → k ≠ 3 → M2.1 9 k = M.1 9 k := fun k h1 h2 => by rw [hM2, mI_n (by omega), mI_n (by omega), mI_n (by omega)]
  have mo : ∀ o, o ≠ 9 → M2.1 o = M.1 o := fun o h1 => by rw [hM2, mI_o h1, mI_o h1, mI_o h1]
  rw [← hM2] at w32
  have sz : (mI (mI M 9 2 (nI q)) 9 3 (nI q)).2.2.2.2.1 = M2.2.2.2.2.1 := by rw [m22]; rfl
  rw [sz] at w32
  have s2 : M2.2.2.2.2.1 = M.2.2.2.2.1 := by rw [m22]
  have t2 : M2.2.2.2.2.2 = M.2.2.2.2.2 := by rw [m22]
  have hy2 : ¬ inB a M2.2.2.2.2.1 := by rw [s2]; exact hy
  obtain ⟨g, g1, g2⟩ := word76 (K := K) R3 hy2 hin (by omega) m3 (e - q) q FU (fun _ => 0) (by omega) (Nat.le_refl _) (FU_lt (by omega)) (fun i hi => absurd hi (by omega))
  obtain ⟨f, f1, f2⟩ := valueOf_o (K := K) (a := a) (M := mA M2 (iA 2 (e - q) g) (e - q)) (n := e - q) (y := M2.2.2.2.2.1) (g := g) (by show a + 1352 ≤ M2.2.2.2.2.1 + 1; omega) (by show M2.2.2.2.2.1 < M2.2.2.2.2.1 + 1; omega) hy2 A_s (by omega) (by omega) (fun i hi => ⟨B (q + i), by have := (hin (q + i) (by omega) (by omega)).2; omega, g1 i hi⟩) (by show M2.2.2.2.2.1 + 1 + 2 ≤ _; omega) (by show M2.2.2.2.2.2 + (e - q) + 4 + (e - q) ≤ _; omega)
  obtain ⟨MA, hMA⟩ : ∃ MA, MA = mA M2 (iA 2 (e - q) g) (e - q) := ⟨_, rfl⟩
  rw [← hMA] at f2 g2
  have sA : MA.2.2.2.2.1 = M.2.2.2.2.1 + 1 := by rw [hMA, ← s2]; rfl
  have tA : MA.2.2.2.2.2 = M.2.2.2.2.2 + (e - q) := by rw [hMA, ← t2]; rfl
  obtain ⟨MF, hMF⟩ : ∃ MF, MF = mD (mA (mA MA (.inr (20, df20)) 4) (iA 3 (e - q) f) (e - q)) MA.2.2.2.2.1 (some (.inr (20, [.ref (MA.2.2.2.2.1 + 1), .int 0, .int 0, .int 0]))) := ⟨_, rfl⟩
  rw [← hMF] at f2
  have D0 : ∀ y, y < M.2.2.2.2.1 → MF.2.2.2.1 y = M.2.2.2.1 y := fun y hy => by
    rw [hMF, D_n (by omega), A_n (by show y ≠ MA.2.2.2.2.1 + 1; omega), A_n (by omega), hMA, A_n (by omega), m22]
  have D1 : MF.2.2.2.1 (M.2.2.2.2.1 + 1) = some (.inr (20, [.ref (M.2.2.2.2.1 + 2), .int 0, .int 0, .int 0])) := by
    have e2 : M.2.2.2.2.1 + 2 = MA.2.2.2.2.1 + 1 := by omega
    rw [hMF, e2, ← sA]
    exact D_s
  have D2 : MF.2.2.2.1 (M.2.2.2.2.1 + 2) = some (iA 3 (e - q) f) := by
    rw [hMF, D_n (by omega)]
    have : M.2.2.2.2.1 + 2 = (mA MA (.inr (20, df20)) 4).2.2.2.2.1 := by
      show _ = MA.2.2.2.2.1 + 1
      omega
    rw [this]
    exact A_s
  have f1' : MF.1 = M2.1 := by rw [hMF, hMA]; rfl
  refine ⟨MF, ?_, ⟨fun o h1 h2 => by rw [f1']; exact mo o h1, ?_, ?_, D0, ?_, ?_⟩, ?_, by rw [f1']; exact m3, fun k h1 h2 => by rw [f1']; exact mk k h1 h2, ?_, ?_, ?_⟩
  · have p3 : (mI M 9 2 (nI q)).1 9 2 = nI q := mI_s
    rw [← sA]
    simp only [fX2_word, r_rcv, bsm, hh, l1, if_pos z, if_neg n01, po, tb, r_g2, p3, r_p3, w32]
    rw [show mA M2 (iA 2 (e - q) (fun _ => 0)) (e - q) = mA M2 (iA 2 (e - q) (fun _ => 0)) (e - q) from rfl, g2, f2, bsm]
  · rw [hMF, hMA]; show M2.2.1 = _; rw [m22]
  · rw [hMF, hMA]; show M2.2.2.1 = _; rw [m22]
  · rw [hMF]; show _ ≤ MA.2.2.2.2.1 + 1 + 1; omega
  · rw [hMF]; show _ ≤ MA.2.2.2.2.2 + 4 + (e - q); omega
  · exact ⟨R3.1.to (by rw [f1']), hL, el, by rw [f1']; exact R3.2.2.2.1, by rw [f1']; exact R3.2.2.2.2⟩
  · rw [hMF]; show MA.2.2.2.2.1 + 1 + 1 = _; omega
  · rw [hMF]; show MA.2.2.2.2.2 + 4 + (e - q) = _; omega
  · refine ⟨fun z => by have := z.2.1; omega, M.2.2.2.2.1 + 2, f, 0, 0, fun z => by have := z.2.1; omega, D1, D2, fun i hi => by rw [f1 i hi, g1 i hi], Or.inl ⟨rfl, rfl⟩⟩
end PW2

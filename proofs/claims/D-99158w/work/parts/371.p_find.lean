/-! HOUSE, names are found -/
set_option maxRecDepth 100000
def nq (f : Nat → Nat) : Nat → Nat
  | 0 => 0
  | n + 1 => 27 * nq f n + (f n - 96)
def fsF (f : Nat → Int64) (v : Int64) : Nat → Nat → Option Nat
  | 0, _ => none
  | d + 1, j => if f j = v then some j else fsF f v d (j + 1)
/-- a kind, film or person at x, its name as a number -/
def NE (a : Nat) (D : Nat → Option HE) (x : Nat) (v : Int64) : Prop := ¬ inB a x ∧ ∃ ci fs na, D x = some (.inr (ci, .ref na :: fs)) ∧ (ci = 6 ∨ ci = 7 ∨ ci = 8) ∧ NmO a D na v
section PFN
variable {K : KE} {a i n k p q e L m d w y la ea cap na : Nat} {M M' : CM} {B f g : Nat → Nat} {σ σ' : MS} {v v' : Int64} {el : Nat → Nat} {fv : Nat → Int64} {D D' : Nat → Option HE}
theorem nq_lt (h : ∀ i, i < n → 97 ≤ f i ∧ f i ≤ 122) : nq f n < 27 ^ n := by
  induction n with
  | zero => simp [nq]
  | succ n ih =>
    have h1 := ih (fun i hi => h i (by omega))
    have h2 := h n (by omega)
    show 27 * nq f n + (f n - 96) < 27 ^ (n + 1)
    rw [Nat.pow_succ]
    omega
theorem nq_inj : ∀ (n m : Nat), (∀ i, i < n → 97 ≤ f i ∧ f i ≤ 122) → (∀ i, i < m → 97 ≤ g i ∧ g i ≤ 122) → nq f n = nq g m → n = m ∧ ∀ i, i < n → f i = g i
  | 0, 0, _, _, _ => ⟨rfl, fun i hi => absurd hi (by omega)⟩
  | 0, m + 1, _, hg, h => by
    have h2 := hg m (by omega)
    have : (0 : Nat) = 27 * nq g m + (g m - 96) := h
    omega
  | n + 1, 0, hf, _, h => by
    have h2 := hf n (by omega)
    have : 27 * nq f n + (f n - 96) = 0 := h
    omega
  | n + 1, m + 1, hf, hg, h => by
    have h1 := hf n (by omega)
    have h2 := hg m (by omega)
    have h3 : 27 * nq f n + (f n - 96) = 27 * nq g m + (g m - 96) := h
    obtain ⟨r1, r2⟩ := nq_inj n m (fun i hi => hf i (by omega)) (fun i hi => hg i (by omega)) (by omega)
    refine ⟨by omega, fun i hi => ?_⟩
    by_cases z : i = n
    · subst z; subst r1; omega
    · exact r2 i (by omega)
theorem b27_nq {gg : Nat → Int32} (hn : n ≤ 6) (h : ∀ i, i < n → 97 ≤ f i ∧ f i ≤ 122) (hg : ∀ i, i < n → gg i = nI (f i)) : b27 gg n = lN (nq f n) := by
  induction n with
  | zero => rfl
  | succ n ih =>
    have e := ih (by omega) (fun i hi => h i (by omega)) (fun i hi => hg i (by omega))
    have h1 := nq_lt (f := f) (n := n) (fun i hi => h i (by omega))
    have h2 := h n (by omega)
    have h3 : (27 : Nat) ^ n ≤ 27 ^ 5 := Nat.pow_le_pow_right (by omega) (by omega)
    have h4 : (27 : Nat) ^ 5 = 14348907 := by decide
    show 27 * b27 gg n + (gg n).toInt64 - 97 + 1 = lN (27 * nq f n + (f n - 96))
    rw [e, hg n (by omega), nI_64 (by omega)]
    rw [l_eq, lN_toInt (by omega)]
    have t1 : (27 * lN (nq f n)).toInt = 27 * (nq f n : Int) := by
      rw [Int64.toInt_mul, lN_toInt (by omega), show (27 : Int64).toInt = 27 from rfl]
      exact Int.bmod_eq_of_le (by omega) (by omega)
    have t2 : (27 * lN (nq f n) + lN (f n)).toInt = 27 * (nq f n : Int) + f n := by
      rw [Int64.toInt_add, t1, lN_toInt (by omega)]
      exact Int.bmod_eq_of_le (by omega) (by omega)
    have t3 : (27 * lN (nq f n) + lN (f n) - 97).toInt = 27 * (nq f n : Int) + f n - 97 := by
      rw [Int64.toInt_sub, t2, show (97 : Int64).toInt = 97 from rfl]
      exact Int.bmod_eq_of_le (by omega) (by omega)
    rw [Int64.toInt_add, t3, k1l, Int.bmod_eq_of_le (by omega) (by omega)]
    omega
/-- a word of one to six letters is a name -/
theorem StO.nm (S : StO a D B q e y) (h1 : q < e) (h6 : e ≤ q + 6) (hl : ∀ k, q ≤ k → k < e → LE (B k)) : NmO a D y (b27 (fun j => nI (B (q + j))) (e - q)) := by
  obtain ⟨i1, va, f, hs, hz, i2, i3, i4, i5, -⟩ := S
  refine ⟨i1, va, e - q, f, hs, hz, i2, i3, i4, by omega, by omega, fun i hi => ⟨B (q + i), (hl (q + i) (by omega) (by omega)).1, (hl (q + i) (by omega) (by omega)).2, i5 i hi⟩, ?_⟩
  have : ∀ n, n ≤ e - q → b27 (fun j => nI (B (q + j))) n = b27 f n := by
    intro n
    induction n with
    | zero => exact fun _ => rfl
    | succ n ih =>
        intro h
        show 27 * b27 (fun j => nI (B (q + j))) n + (nI (B (q + n))).toInt64 - 97 + 1 = 27 * b27 f n + (f n).toInt64 - 97 + 1
        rw [ih (by omega), i5 n (by omega)]
  exact this _ (Nat.le_refl _)
/-- two names -/
theorem NmO.eq (K : KE) (S : NmO a M.2.2.2.1 na v) (T : NmO a M.2.2.2.1 y v') : rcv K (hp a M) (some na) 20 = some na ∧ fJ6_equals K (hp a M) na (some y) = some (if v = v' then 1 else 0) := by
  obtain ⟨i1, va, n, g, hs, hz, i2, i3, i4, n1, n6, i5, i6⟩ := S
  obtain ⟨j1, vb, m, g', hs', hz', j2, j3, j4, m1, m6, j5, j6⟩ := T
  refine ⟨d_rcv i1 i3, ?_⟩
  have S1 : SG K (hp a M) na n g := ⟨va, g, hs, hz, d_rd i1 i3, d_rd i2 i4, by omega, fun _ _ => rfl⟩
  have S2 : SG K (hp a M) y m g' := ⟨vb, g', hs', hz', d_rd j1 j3, d_rd j2 j4, by omega, fun _ _ => rfl⟩
  obtain ⟨r, r1, r2⟩ := S1.eq S2
  obtain ⟨f1, hf⟩ : ∃ f1 : Nat → Nat, ∀ i, i < n → 97 ≤ f1 i ∧ f1 i ≤ 122 ∧ g i = nI (f1 i) := by
    refine ⟨fun i => if h : i < n then (i5 i h).choose else 0, fun i hi => ?_⟩
    have := (i5 i hi).choose_spec
    simp only [dif_pos hi]
    exact this
  obtain ⟨f2, hg⟩ : ∃ f2 : Nat → Nat, ∀ i, i < m → 97 ≤ f2 i ∧ f2 i ≤ 122 ∧ g' i = nI (f2 i) := by
    refine ⟨fun i => if h : i < m then (j5 i h).choose else 0, fun i hi => ?_⟩
    have := (j5 i hi).choose_spec
    simp only [dif_pos hi]
    exact this
  have e1 := b27_nq (gg := g) n6 (fun i hi => ⟨(hf i hi).1, (hf i hi).2.1⟩) (fun i hi => (hf i hi).2.2)
  have e2 := b27_nq (gg := g') m6 (fun i hi => ⟨(hg i hi).1, (hg i hi).2.1⟩) (fun i hi => (hg i hi).2.2)
  rw [r1]
  have q6 : (27 : Nat) ^ 6 = 387420489 := by decide
  have b1 := nq_lt (f := f1) (n := n) (fun i hi => ⟨(hf i hi).1, (hf i hi).2.1⟩)
  have b2 := nq_lt (f := f2) (n := m) (fun i hi => ⟨(hg i hi).1, (hg i hi).2.1⟩)
  have c1 : (27 : Nat) ^ n ≤ 27 ^ 6 := Nat.pow_le_pow_right (by omega) (by omega)
  have c2 : (27 : Nat) ^ m ≤ 27 ^ 6 := Nat.pow_le_pow_right (by omega) (by omega)
  have iff1 : v = v' ↔ (n = m ∧ ∀ i, i < n → g i = g' i) := by
    rw [i6, j6, e1, e2]
    constructor
    · intro h
      rw [l_eq, lN_toInt (by omega), lN_toInt (by omega)] at h
      obtain ⟨x1, x2⟩ := nq_inj n m (fun i hi => ⟨(hf i hi).1, (hf i hi).2.1⟩) (fun i hi => ⟨(hg i hi).1, (hg i hi).2.1⟩) (by omega)
      refine ⟨x1, fun i hi => ?_⟩
      rw [(hf i hi).2.2, (hg i (by omega)).2.2, x2 i hi]
    · rintro ⟨x1, x2⟩
      subst x1
      have : ∀ k, k ≤ n → nq f1 k = nq f2 k := by
        intro k
        induction k with
        | zero => exact fun _ => rfl
        | succ k ih =>
            intro hk
            have y1 := hf k (by omega)
            have y2 := hg k (by omega)
            have y3 := x2 k (by omega)
            rw [y1.2.2, y2.2.2] at y3
            have y4 := (nI_eq (by omega) (by omega)).mp y3
            show 27 * nq f1 k + (f1 k - 96) = 27 * nq f2 k + (f2 k - 96)
            rw [ih (by omega), y4]
      rw [this n (Nat.le_refl _)]
  rcases r2 with ⟨rfl, r2⟩ | ⟨rfl, r2⟩
  · rw [if_pos (iff1.mpr r2)]
  · rw [if_neg (fun z => r2 (iff1.mp z))]
theorem NE.nm (K : KE) (E : NE a M.2.2.2.1 y v) : ∃ na, ckL K (hp a M) (some y) [6, 7, 8] = some () ∧ gNm K (hp a M) (some y) = some (some na) ∧ NmO a M.2.2.2.1 na v := by
  obtain ⟨h1, ci, fs, na, h2, h3, h4⟩ := E
  have q := d_rd (K := K) h1 h2
  refine ⟨na, k_ckL q (by rcases h3 with h | h | h <;> subst h <;> simp), ?_, h4⟩
  have g : ∀ c, c ≠ ci → gR K (hp a M) (some y) c 0 = none := fun c hc => by
    have : oV K (hp a M) (some y) c = none := by
      unfold oV
      simp [q, hc, Ne.symm hc]
    unfold gR
    rw [this]
    rfl
  unfold gNm
  rcases h3 with h | h | h <;> subst h
  · rw [k_gR (x := some na) q rfl]
  · rw [g 6 (by omega), k_gR (x := some na) q rfl]
  · rw [g 6 (by omega), g 7 (by omega), k_gR (x := some na) q rfl]
theorem findC (X : LsX a M.2.2.2.1 la ea n cap el) (hn : n ≤ 8) (hE : ∀ j, j < n → NE a M.2.2.2.1 (el j) (fv j)) (hv : NmO a M.2.2.2.1 y v) : fX7_find K (hp a M) (some la) (some y) = some (oI (fsF fv v n 0)) := by
  obtain ⟨x1, x2, x3⟩ := X.at (K := K) (by omega)
  have key : ∀ (d j fu : Nat), j + d = n → d < fu → fX7_find_2 K (hp a M) fu (some la) (some y) (nI j) = some (oI (fsF fv v d j)) := by
    intro d
    induction d with
    | zero =>
      intro j fu hj hf
      obtain ⟨m, rfl⟩ : ∃ n, fu = n + 1 := ⟨fu - 1, by omega⟩
      obtain rfl : j = n := by omega
      simp only [fX7_find_2, x1, x2, bsm, if_pos (nI_le (Nat.le_refl j) (show j < 2 ^ 31 by omega)), fsF, oI]
    | succ d ih =>
      intro j fu hj hf
      obtain ⟨m, rfl⟩ : ∃ n, fu = n + 1 := ⟨fu - 1, by omega⟩
      have kk := nI_ge (show j < n by omega) (show n < 2 ^ 31 by omega)
      obtain ⟨na, c1, c2, c3⟩ := (hE j (by omega)).nm K
      obtain ⟨c4, c5⟩ := c3.eq K hv
      simp only [fX7_find_2, x1, x2, bsm, if_neg kk, x3 j (by omega), c1, c2, c4, c5, nI_1, fsF]
      by_cases z : fv j = v
      · rw [if_pos z, if_neg n01, if_pos z, oI]
      · rw [if_neg z, if_pos rfl, if_neg z]
        exact ih (j + 1) m (by omega) (by omega)
  exact key n 0 FU (by omega) (FU_lt (by omega))
theorem findT (hw : w < 3) (hn : n ≤ 8) (h40 : σ.2.2.1 40 w = nI n) (h41 : ∀ j, j < n → σ.2.2.2 41 (8 * w + j) = fv j) : fX6_nameOf σ (nI w) v = some (oI (fsF fv v n 0)) := by
  have key : ∀ (d j fu : Nat), j + d = n → d < fu → fX6_nameOf_3 σ fu (nI w) v (nI j) = some (oI (fsF fv v d j)) := by
    intro d
    induction d with
    | zero =>
      intro j fu hj hf
      obtain ⟨m, rfl⟩ : ∃ n, fu = n + 1 := ⟨fu - 1, by omega⟩
      obtain rfl : j = n := by omega
      simp only [fX6_nameOf_3, tg40 (σ := σ) (show w < 6 by omega), h40, bsm, if_pos (nI_le (Nat.le_refl j) (show j < 2 ^ 31 by omega)), fsF, oI]
    | succ d ih =>
      intro j fu hj hf
      obtain ⟨m, rfl⟩ : ∃ n, fu = n + 1 := ⟨fu - 1, by omega⟩
      have kk := nI_ge (show j < n by omega) (show n < 2 ^ 31 by omega)
      simp only [fX6_nameOf_3, tg40 (σ := σ) (show w < 6 by omega), h40, bsm, if_neg kk, ki8, nI_mul, nI_add, tg41 (σ := σ) (show 8 * w + j < 48 by omega), h41 j (by omega), nI_1, fsF]
      by_cases z : fv j = v
      · rw [if_pos z, if_pos z, oI]
      · rw [if_neg z, if_neg z]
        exact ih (j + 1) m (by omega) (by omega)
  exact key n 0 FU (by omega) (FU_lt (by omega))
end PFN

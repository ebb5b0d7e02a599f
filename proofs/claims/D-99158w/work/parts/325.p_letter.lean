/-! PLAIN LAW, letters of names -/
set_option maxRecDepth 100000
def nb (d : Nat → Nat) : Nat → Nat
  | 0 => 0
  | n + 1 => 27 * nb d n + d n
theorem nb_lt {d : Nat → Nat} : ∀ {n : Nat}, (∀ i, i < n → d i ≤ 26) → nb d n < 27 ^ n
  | 0, _ => by simp [nb]
  | n + 1, h => by
    have := nb_lt (n := n) (fun i hi => h i (by omega))
    have := h n (by omega)
    rw [nb, Nat.pow_succ]
    omega
theorem nb_6 {d : Nat → Nat} {n : Nat} (hn : n ≤ 6) (h : ∀ i, i < n → d i ≤ 26) : nb d n < 400000000 :=
  Nat.lt_of_lt_of_le (nb_lt h) (Nat.le_trans (Nat.pow_le_pow_right (by omega) hn) (by decide))
theorem nb_b {g : Nat → Int32} {d : Nat → Nat} : ∀ {n : Nat}, n ≤ 6 → (∀ i, i < n → 1 ≤ d i ∧ d i ≤ 26 ∧ g i = nI (96 + d i)) → b27 g n = lN (nb d n)
  | 0, _, _ => rfl
  | n + 1, hn, h => by
    have q := h n (by omega)
    have hb := nb_6 (n := n) (by omega) (fun i hi => (h i (by omega)).2.1)
    rw [b27, nb_b (by omega) (fun i hi => h i (by omega)), q.2.2, nI_l (by omega), nb, show (27 : Int64) = lN 27 from rfl, show (97 : Int64) = lN 97 from rfl, show (1 : Int64) = lN 1 from rfl, lN_mul, lN_add, lN_sub (by omega), lN_add]
    exact congrArg lN (by omega)
theorem lN_le0 {x : Nat} (h : x < 2 ^ 31) : (lN x ≤ 0) = (x = 0) := by
  rw [Int64.le_iff_toInt_le, lN_toInt (by omega), k0l]
  exact propext ⟨fun q => by omega, fun q => by omega⟩
section PLE
variable {K : KE} {a i n k f p j m : Nat} {M M' : CM} {σ σ' : MS} {nk nf np : Nat} {pt : Nat → Nat} {vl vf vm : Option Nat} {d : Nat → Nat}
theorem let_t1 {x : Int32} {v : Int64} : ∀ (m c fuel : Nat), m ≤ 6 → m < fuel → (∀ i, i < m → 1 ≤ d i ∧ d i ≤ 26) → fX6_letter_69 σ fuel x v (nI c) (lN (nb d m)) = if x < nI (c + m) then fX6_letter_104 σ FU x v (nI (c + m) - 1) else some 0
  | 0, c, fuel, _, hf, _ => by
    obtain ⟨n, rfl⟩ : ∃ n, fuel = n + 1 := ⟨fuel - 1, by omega⟩
    simp only [fX6_letter_69, nb, lN_le0 (show 0 < 2 ^ 31 by omega), if_true, Nat.add_zero]
  | m + 1, c, fuel, hm, hf, hd => by
    obtain ⟨n, rfl⟩ : ∃ n, fuel = n + 1 := ⟨fuel - 1, by omega⟩
    have hb := nb_6 (n := m + 1) (by omega) (fun i hi => (hd i hi).2)
    have q := hd m (by omega)
    have h0 : ¬ nb d (m + 1) = 0 := by rw [nb]; omega
    have e : lN (nb d (m + 1)) / 27 = lN (nb d m) := by
      rw [show (27 : Int64) = lN 27 from rfl, divL (by omega) (by omega) (by omega), nb]
      exact congrArg lN (by omega)
    simp only [fX6_letter_69, lN_le0 (show nb d (m + 1) < 2 ^ 31 by omega), if_neg h0, e, nI_1]
    rw [let_t1 m (c + 1) n (by omega) (by omega) (fun i hi => hd i (by omega)), show c + 1 + m = c + (m + 1) by omega]
theorem let_t2 : ∀ (m fuel : Nat), m < 6 → m < fuel → j ≤ m → (∀ i, i < m + 1 → 1 ≤ d i ∧ d i ≤ 26) → fX6_letter_104 σ fuel (nI j) (lN (nb d (m + 1))) (nI m) = some (nI (d j)) := by
  intro m
  induction m with
  | zero =>
    intro fuel _ hf hj hd
    obtain ⟨n, rfl⟩ : ∃ n, fuel = n + 1 := ⟨fuel - 1, by omega⟩
    obtain rfl : j = 0 := by omega
    have q := hd 0 (by omega)
    have hb := nb_6 (n := 0 + 1) (by omega) (fun i hi => (hd i hi).2)
    have e : (lN (nb d (0 + 1)) - lN (nb d (0 + 1)) / 27 * 27).toInt32 = nI (d 0) := by
      rw [show (27 : Int64) = lN 27 from rfl, modL (by omega) (by omega) (by omega), lN_i, nb, nb]
      exact congrArg nI (by omega)
    simp only [fX6_letter_104, nI_leE (show 0 < 2 ^ 31 by omega) (show 0 < 2 ^ 31 by omega), Nat.le_refl, if_true, e]
  | succ m ih =>
    intro fuel hm hf hj hd
    obtain ⟨n, rfl⟩ : ∃ n, fuel = n + 1 := ⟨fuel - 1, by omega⟩
    have q := hd (m + 1) (by omega)
    have hb := nb_6 (n := m + 1 + 1) (by omega) (fun i hi => (hd i hi).2)
    by_cases h : j = m + 1
    · subst h
      have e : (lN (nb d (m + 1 + 1)) - lN (nb d (m + 1 + 1)) / 27 * 27).toInt32 = nI (d (m + 1)) := by
        rw [show (27 : Int64) = lN 27 from rfl, modL (by omega) (by omega) (by omega), lN_i, nb]
        exact congrArg nI (by omega)
      simp only [fX6_letter_104, nI_leE (show m + 1 < 2 ^ 31 by omega) (show m + 1 < 2 ^ 31 by omega), Nat.le_refl, if_true, e]
    · have e : lN (nb d (m + 1 + 1)) / 27 = lN (nb d (m + 1)) := by
        rw [show (27 : Int64) = lN 27 from rfl, divL (by omega) (by omega) (by omega), nb]
        exact congrArg lN (by omega)
      have e2 : nI (m + 1) + (-1 : Int32) = nI m := (Int32.sub_eq_add_neg _ _).symm.trans (nI_m1 (a := m + 1) (by omega))
      simp only [fX6_letter_104, nI_leE (show m + 1 < 2 ^ 31 by omega) (show j < 2 ^ 31 by omega), if_neg (show ¬ m + 1 ≤ j by omega), e, e2]
      exact ih n (by omega) (by omega) (by omega) (fun i hi => hd i (by omega))
/-- the letters of a name, at both -/
theorem NmO.let (K : KE) {na : Nat} {v : Int64} (N : NmO a M.2.2.2.1 na v) : rcv K (hp a M) (some na) 20 = some na ∧ ∃ n, fJ6_length K (hp a M) na = some (nI n) ∧ n ≤ 6 ∧ ∀ j, j < 6 → ∃ x, fX6_letter_69 σ FU (nI j) v 0 v = some x ∧ (n ≤ j → x = 0) ∧ (j < n → ∃ c, fJ6_charAt K (hp a M) na (nI j) = some c ∧ c - 97 + 1 = x) := by
  obtain ⟨n0, va, n, g, hs, hz, v0, n1, n2, n3, n4, n5, n6⟩ := N
  obtain ⟨d, hd⟩ : ∃ d : Nat → Nat, ∀ i, i < n → 1 ≤ d i ∧ d i ≤ 26 ∧ g i = nI (96 + d i) :=
    ⟨fun i => (g i).toNatClampNeg - 96, fun i hi => by
      obtain ⟨c, c1, c2, c3⟩ := n5 i hi
      have : (g i).toNatClampNeg = c := by rw [c3, nI_clamp (by omega)]
      dsimp only
      rw [this, c3]
      exact ⟨by omega, by omega, congrArg nI (by omega)⟩⟩
  have rc := d_rcv (K := K) n0 n1
  have hv : v = lN (nb d n) := n6.trans (nb_b n4 hd)
  have hd' : ∀ i, i < n → 1 ≤ d i ∧ d i ≤ 26 := fun i hi => ⟨(hd i hi).1, (hd i hi).2.1⟩
  have gc : gI K (hp a M) (some na) 20 1 = some 0 := d_gI n0 n1 rfl
  have gv : gR K (hp a M) (some na) 20 0 = some (some va) := d_gR (x := some va) n0 n1 rfl
  have cn : cN K (hp a M) (some va) 3 = some (nI n) := d_cN v0 n2
  have br0 : br 0 = some 0 := by decide
  refine ⟨rc, n, ?_, n4, fun j hj => ?_⟩
  · simp only [fJ6_length, gv, bsm, cn, rc, fJ6_coder, gc, br0, if_neg (show ¬ (1 : Int32) = 0 by decide)]
    rw [show (0 : Int32) &&& 31 = 0 by decide, Int32.shiftRight_zero]
  · have t1 := let_t1 (σ := σ) (x := nI j) (v := v) n 0 FU (by omega) (FU_lt (by omega)) hd'
    rw [← hv, Nat.zero_add] at t1
    rw [show nI 0 = (0 : Int32) from rfl] at t1
    rw [t1]
    by_cases h : j < n
    · obtain ⟨m, rfl⟩ : ∃ m, n = m + 1 := ⟨n - 1, by omega⟩
      refine ⟨nI (d j), ?_, fun q => absurd q (by omega), fun _ => ⟨nI (96 + d j), ?_, ?_⟩⟩
      · rw [if_pos ((nI_ltI (by omega) (by omega)).mpr h), nI_m1 (by omega), hv]
        exact let_t2 m FU (by omega) (FU_lt (by omega)) (by omega) hd'
      · have ck : ∀ h', fJ6_checkIndex K h' (nI j) (nI (m + 1)) = some () := fun h' => by
          simp only [fJ6_checkIndex, fJ8_checkIndex, nI_lt0 (show j < 2 ^ 31 by omega), nI_ltE (show j < 2 ^ 31 by omega) (show m + 1 < 2 ^ 31 by omega), if_false, h, if_true, bsm]
        have hc := hd j h
        have e1 : ∀ c, c < 200 → ((nI c &&& (255 : Int32)).toUInt32 % 65536).toInt32 = nI c ∧ cr (nI c) = some (nI c) := by decide +kernel
        obtain ⟨e1, e2⟩ := e1 (96 + d j) (by omega)
        simp only [fJ6_charAt, rc, bsm, fJ6_isLatin1, gc, if_neg (show ¬ (1 : Int32) = 0 by decide), if_true, gv, fJ9_charAt, cn, ck, d_cI (K := K) v0 n2 h (by omega), hc.2.2, e1, e2]
      · have hc := hd j h
        rw [show (97 : Int32) = nI 97 from rfl, show (1 : Int32) = nI 1 from rfl]
        by_cases h0 : d j = 1
        · rw [h0]; decide
        · rw [nI_sub (by omega), nI_add]
          exact congrArg nI (by omega)
    · refine ⟨0, ?_, fun _ => rfl, fun q => absurd q h⟩
      rw [if_neg (fun q => h ((nI_ltI (by omega) (by omega)).mp q))]
theorem let_c6 {na : Nat} {y : Nat} {v : Int64} (hy : ¬ inB a y) (q : M.2.2.2.1 y = some (.inr (6, [.ref na]))) (N : NmO a M.2.2.2.1 na v) (hj : j < 6) : ∃ x, fX7_letter_c6 K (hp a M) y (nI j) = some x ∧ fX6_letter_69 σ FU (nI j) v 0 v = some x := by
  obtain ⟨r, n, l, n6, h⟩ := N.let (σ := σ) K
  obtain ⟨x, t, h1, h2⟩ := h j hj
  refine ⟨x, ?_, t⟩
  simp only [fX7_letter_c6, d_gR (K := K) (k := 0) (x := some na) hy q rfl, bsm, r, l, nI_leE (show n < 2 ^ 31 by omega) (show j < 2 ^ 31 by omega)]
  by_cases g : n ≤ j
  · rw [if_pos g, h1 g]
  · obtain ⟨c, c1, c2⟩ := h2 (by omega)
    rw [if_neg g, c1, bsm, c2]
theorem let_c7 {na : Nat} {y : Nat} {v : Int64} {l' : List Value} (hy : ¬ inB a y) (q : M.2.2.2.1 y = some (.inr (7, .ref na :: l'))) (N : NmO a M.2.2.2.1 na v) (hj : j < 6) : ∃ x, fX7_letter_c7 K (hp a M) y (nI j) = some x ∧ fX6_letter_69 σ FU (nI j) v 0 v = some x := by
  obtain ⟨r, n, l, n6, h⟩ := N.let (σ := σ) K
  obtain ⟨x, t, h1, h2⟩ := h j hj
  refine ⟨x, ?_, t⟩
  simp only [fX7_letter_c7, d_gR (K := K) (k := 0) (x := some na) hy q rfl, bsm, r, l, nI_leE (show n < 2 ^ 31 by omega) (show j < 2 ^ 31 by omega)]
  by_cases g : n ≤ j
  · rw [if_pos g, h1 g]
  · obtain ⟨c, c1, c2⟩ := h2 (by omega)
    rw [if_neg g, c1, bsm, c2]
theorem let_c8 {na : Nat} {y : Nat} {v : Int64} {l' : List Value} (hy : ¬ inB a y) (q : M.2.2.2.1 y = some (.inr (8, .ref na :: l'))) (N : NmO a M.2.2.2.1 na v) (hj : j < 6) : ∃ x, fX7_letter_c8 K (hp a M) y (nI j) = some x ∧ fX6_letter_69 σ FU (nI j) v 0 v = some x := by
  obtain ⟨r, n, l, n6, h⟩ := N.let (σ := σ) K
  obtain ⟨x, t, h1, h2⟩ := h j hj
  refine ⟨x, ?_, t⟩
  simp only [fX7_letter_c8, d_gR (K := K) (k := 0) (x := some na) hy q rfl, bsm, r, l, nI_leE (show n < 2 ^ 31 by omega) (show j < 2 ^ 31 by omega)]
  by_cases g : n ≤ j
  · rw [if_pos g, h1 g]
  · obtain ⟨c, c1, c2⟩ := h2 (by omega)
    rw [if_neg g, c1, bsm, c2]
theorem LsO.in {la : Nat} {el : Nat → Nat} {D : Nat → Option HE} (L : LsO a D la n el) (hk : k < n) : ¬ inB a (el k) := by
  obtain ⟨_, _, _, _, _, _, _, _, _, _, n6⟩ := L
  exact (n6 k hk).2
theorem let_list {la : Nat} {el : Nat → Nat} {u : Nat → Int64} (L : LsO a M.2.2.2.1 la n el) (hn : n < 2 ^ 20)
    (h : ∀ k, k < n → ∃ y ci fs, el k = y ∧ M.2.2.2.1 y = some (.inr (ci, fs)) ∧ ci ∈ [6, 7, 8] ∧ ∀ j, j < 6 → ∃ x, (if ci = 6 then fX7_letter_c6 K (hp a M) y (nI j) else if ci = 7 then fX7_letter_c7 K (hp a M) y (nI j) else if ci = 8 then fX7_letter_c8 K (hp a M) y (nI j) else none) = some x ∧ fX6_letter_69 σ FU (nI j) (u k) 0 (u k) = some x)
    (hj : j < 6) (x2 : Int32) (h0 : ¬ x2 < 0) : (nI n ≤ x2 ∧ fX0_letter_60 K (hp a M) a x2 (nI j) (some la) = some (-1)) ∨ ∃ k x, k < n ∧ x2 = nI k ∧ fX0_letter_60 K (hp a M) a x2 (nI j) (some la) = some x ∧ fX6_letter_69 σ FU (nI j) (u k) 0 (u k) = some x := by
  obtain ⟨r, sz⟩ := L.size (K := K)
  rcases pk_ix x2 (n := n) (by omega) with g | g | ⟨k, g, rfl⟩
  · exact absurd g h0
  · refine Or.inl ⟨g, ?_⟩
    simp only [fX0_letter_60, r, sz, bsm, if_pos g]
  · obtain ⟨y, ci, fs, rfl, q, hc, w⟩ := h k g
    obtain ⟨x, w1, w2⟩ := w j hj
    have hy : ¬ inB a (el k) := by
      obtain ⟨_, _, _, _, _, _, _, _, _, _, n6⟩ := L
      exact (n6 k g).2
    refine Or.inr ⟨k, x, g, rfl, ?_, w2⟩
    simp only [fX0_letter_60, r, sz, bsm, if_neg (nI_ge g (show n < 2 ^ 31 by omega)), L.get (K := K) g, d_ckL (K := K) (cis := [6, 7, 8]) hy q hc, d_cls (K := K) hy q, w1]
theorem ps5 : PS5 K a (IV K a) := by
  intro h σ n x1 x2 x3 hn I
  have I' := I.next
  obtain ⟨M, nk, nf, np, pt, vl, vf, vm, rfl, X, H, N, E⟩ := I
  have b := X.bk
  obtain ⟨v1, v2, v3⟩ := X.v.2.1
  obtain ⟨ha, h1, ⟨i, st, pr, lk, lf, lp, ek, ef, ep, g1, g2, g3, g4, g5, g6, g7⟩, -⟩ := id X
  have ks := d_gR (K := K) (k := 6) (x := some lk) i g1 rfl
  have fs := d_gR (K := K) (k := 7) (x := some lf) i g1 rfl
  have ps := d_gR (K := K) (k := 8) (x := some lp) i g1 rfl
  have hh : M.2.2.1 0 0 = some ha := h1
  have key : ∀ (t : Nat) (m : Nat) (la : Nat) (el : Nat → Nat), t < 3 → m ≤ 8 → σ.2.2.1 40 (3 + t) = nI m → LsO a M.2.2.2.1 la m el → x1 = nI t →
      (if x1 = 0 then some lk else if x1 = 1 then some lf else some lp) = some la →
      (∀ k, k < m → ∃ y ci fs, el k = y ∧ M.2.2.2.1 y = some (.inr (ci, fs)) ∧ ci ∈ [6, 7, 8] ∧ ∀ j, j < 6 → ∃ x, (if ci = 6 then fX7_letter_c6 K (hp a M) y (nI j) else if ci = 7 then fX7_letter_c7 K (hp a M) y (nI j) else if ci = 8 then fX7_letter_c8 K (hp a M) y (nI j) else none) = some x ∧ fX6_letter_69 σ FU (nI j) (σ.2.2.2 41 (24 + 8 * t + k)) 0 (σ.2.2.2 41 (24 + 8 * t + k)) = some x) →
      ∃ v, fX0_letter K (hp a M) a x1 x2 x3 = some v ∧ fX6_letter σ x1 x2 x3 = some v := by
    intro t m la el ht hm e40 L e1 e2 hk
    have n1 : ¬ x1 < 0 := by rw [e1]; exact nI_pos (by omega)
    have n2 : ¬ (2 : Int32) < x1 := by rw [e1, show (2 : Int32) = nI 2 from rfl, nI_ltE (by omega) (by omega)]; omega
    have tv : aI σ 40 ((3 : Int32) + x1) = some (nI m) := by
      rw [e1, show (3 : Int32) = nI 3 from rfl, nI_add, tg40 (by omega), e40]
    have cc : ∀ k', k' = x3 → fX0_letter K (hp a M) a x1 x2 x3 = if x3 < 0 ∨ 5 < x3 then some (-1) else if 0 ≤ x2 then fX0_letter_60 K (hp a M) a x2 x3 (some la) else some (-1) := fun _ _ => by
      simp only [fX0_letter, c_is, x_g0, hh]
      by_cases q : x3 < 0 ∨ 5 < x3
      · rw [if_pos q, bsm, if_pos rfl, if_pos q]
      · rw [if_neg q, if_neg q, bsm, if_neg n01, if_neg (fun z => z.elim n1 n2), bsm, if_neg n01]
        simp only [bsm, ks, fs, ps]
        by_cases q1 : x1 = 0
        · rw [if_pos q1] at e2
          rw [if_pos q1, e2]
        · rw [if_neg q1] at e2
          rw [if_neg q1]
          by_cases q2 : x1 = 1
          · rw [if_pos q2] at e2
            rw [if_pos q2, e2]
          · rw [if_neg q2] at e2
            rw [if_neg q2, e2]
    have tt : fX6_letter σ x1 x2 x3 = if x2 < 0 ∨ nI m ≤ x2 then some (-1) else if x3 < 0 ∨ 5 < x3 then some (-1) else (aL σ 41 (24 + 8 * x1 + x2)).bind fun v8 => fX6_letter_69 σ FU x3 v8 0 v8 := by
      simp only [fX6_letter, lk0, lk2, lk5, t_is, if_neg (fun z : x1 < 0 ∨ 2 < x1 => z.elim n1 n2), bsm, if_neg n01, tv, sub1_lt (show m < 2 ^ 31 by omega)]
      by_cases q : x2 < 0 ∨ nI m ≤ x2
      · rw [if_pos q, if_pos q, bsm, if_pos rfl]
      · rw [if_neg q, if_neg q, bsm, if_neg n01]
        by_cases q : x3 < 0 ∨ 5 < x3
        · rw [if_pos q, if_pos q, bsm, if_pos rfl]
        · rw [if_neg q, if_neg q, bsm, if_neg n01]
    rw [cc x3 rfl, tt]
    by_cases q : x3 < 0 ∨ 5 < x3
    · refine ⟨-1, by rw [if_pos q], ?_⟩
      rw [if_pos q]
      by_cases q2 : x2 < 0 ∨ nI m ≤ x2
      · rw [if_pos q2]
      · rw [if_neg q2]
    · rw [if_neg q, if_neg q]
      by_cases q0 : x2 < 0
      · refine ⟨-1, ?_, by rw [if_pos (Or.inl q0)]⟩
        rw [if_neg (fun z => Int32.not_le.mpr q0 z)]
      · obtain ⟨j, hj, rfl⟩ : ∃ j, j < 6 ∧ x3 = nI j := by
          rcases pk_ix x3 (n := 6) (by omega) with g | g | g
          · exact absurd (Or.inl g) q
          · refine absurd (Or.inr ?_) q
            rw [Int32.lt_iff_toInt_lt, show (5 : Int32).toInt = 5 by decide]
            rw [Int32.le_iff_toInt_le, show (nI 6).toInt = 6 by decide] at g
            omega
          · obtain ⟨j, g, rfl⟩ := g
            exact ⟨j, g, rfl⟩
        rw [if_pos (Int32.not_lt.mp q0)]
        rcases let_list (K := K) (σ := σ) (u := fun k => σ.2.2.2 41 (24 + 8 * t + k)) L (by omega) hk hj x2 q0 with ⟨w1, w2⟩ | ⟨k, x, w0, rfl, w1, w2⟩
        · exact ⟨-1, w2, by rw [if_pos (Or.inr w1)]⟩
        · refine ⟨x, w1, ?_⟩
          rw [if_neg (fun z => z.elim q0 (nI_ge w0 (by omega))), e1, show (24 : Int32) = nI 24 from rfl, show (8 : Int32) = nI 8 from rfl, nI_mul, nI_add, nI_add, tg41 (by omega), bsm]
          exact w2
  have bad : (x1 < 0 ∨ 2 < x1) → ∃ v, fX0_letter K (hp a M) a x1 x2 x3 = some v ∧ fX6_letter σ x1 x2 x3 = some v := fun q => by
    refine ⟨-1, ?_, ?_⟩
    · simp only [fX0_letter, c_is]
      by_cases q' : x3 < 0 ∨ 5 < x3
      · rw [if_pos q', bsm, if_pos rfl]
      · rw [if_neg q', bsm, if_neg n01, if_pos q, bsm, if_pos rfl]
    · simp only [fX6_letter, lk0, lk2, t_is, if_pos q, bsm, if_true]
  suffices q : ∃ v, fX0_letter K (hp a M) a x1 x2 x3 = some v ∧ fX6_letter σ x1 x2 x3 = some v by
    obtain ⟨v, q1, q2⟩ := q
    exact ⟨v, q1, q2, I'⟩
  rcases pk_ix x1 (n := 3) (by omega) with q | q | ⟨t, q, e⟩
  · exact bad (Or.inl q)
  · refine bad (Or.inr ?_)
    rw [Int32.lt_iff_toInt_lt, show (2 : Int32).toInt = 2 by decide]
    rw [Int32.le_iff_toInt_le, show (nI 3).toInt = 3 by decide] at q
    omega
  · have ht : t = 0 ∨ t = 1 ∨ t = 2 := by omega
    rcases ht with rfl | rfl | rfl
    · refine key 0 nk lk ek (by omega) (by omega) v1 g2 e (by rw [if_pos (show x1 = 0 from e)]) (fun k hk => ?_)
      obtain ⟨na, q1, q2⟩ := g5 k hk
      exact ⟨_, 6, _, rfl, q1, by simp, fun j hj => let_c6 (g2.in hk) q1 q2 hj⟩
    · refine key 1 nf lf ef (by omega) (by omega) v2 g3 e (by rw [if_neg (by rw [e]; decide), if_pos (show x1 = 1 from e)]) (fun k hk => ?_)
      obtain ⟨na, ia, g, q0, q1, q3, q4, q2⟩ := g6 k hk
      exact ⟨_, 7, _, rfl, q1, by simp, fun j hj => let_c7 (g3.in hk) q1 q2 hj⟩
    · refine key 2 np lp ep (by omega) (by omega) v3 g4 e (by rw [if_neg (by rw [e]; decide), if_neg (by rw [e]; decide)]) (fun k hk => ?_)
      obtain ⟨na, ia, g, q0, q1, q3, q4, q2⟩ := g7 k hk
      exact ⟨_, 8, _, rfl, q1, by simp, fun j hj => let_c8 (g4.in hk) q1 q2 hj⟩
end PLE

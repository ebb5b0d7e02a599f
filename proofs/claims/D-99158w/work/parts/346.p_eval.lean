/-! PARSER, sums and tests at the component tell what their codes tell -/
set_option maxRecDepth 100000
def TrK (d : Nat) (K : KE) (a lo hi : Nat) (D : Nat → Option HE) (r : Nat) (cs : List Nat) : Prop := (¬ inB a r ∧ lo ≤ r ∧ r < hi) ∧ (∃ ci fs, D r = some (.inr (ci, fs)) ∧ 9 ≤ ci ∧ ci ≤ 13) ∧ ∀ d', d ≤ d' → TrV d' K a lo hi D r cs
def TeK (d : Nat) (K : KE) (a lo hi : Nat) (D : Nat → Option HE) (r : Nat) (cs : List Nat) : Prop := (¬ inB a r ∧ lo ≤ r ∧ r < hi) ∧ (∃ ci fs, D r = some (.inr (ci, fs)) ∧ 14 ≤ ci ∧ ci ≤ 17) ∧ ∀ d', d ≤ d' → TeV d' K a lo hi D r cs
/-- codes of a chain -/
def ccG (f : Nat → Nat) (cj : Nat → List Nat) : Nat → List Nat
  | 0 => []
  | 1 => cj 0
  | k + 2 => ccG f cj (k + 1) ++ cj (k + 1) ++ [f (k + 1)]
def sgc (c : Nat) : Nat := if c = 43 then 1 else if c = 45 then 2 else if c = 42 then 3 else 4
abbrev sgn (c : Nat) : Prop := c = 43 ∨ c = 45 ∨ c = 42 ∨ c = 47
/-- a Chain at s, all of whose cells lie below z -/
def ChO (K : KE) (a d s z : Nat) (D : Nat → Option HE) (n : Nat) (cs : List Nat) : Prop := ∃ (ea ba ca cb : Nat) (el sg : Nat → Nat) (cj : Nat → List Nat), (D s = some (.inr (9, [.ref (s + 1), .ref (s + 3)])) ∧ ¬ inB a s ∧ s + 5 ≤ z) ∧ LsX a D (s + 1) ea n ca el ∧ SbX a D (s + 3) ba n cb sg ∧ (s + 2 ≤ ea ∧ ea < z ∧ s + 2 ≤ ba ∧ ba < z) ∧ (∀ j, j < n → sgn (sg j) ∧ ∃ lo hi, s + 5 ≤ lo ∧ hi ≤ z ∧ (ea < lo ∨ hi ≤ ea) ∧ (ba < lo ∨ hi ≤ ba) ∧ TrK d K a lo hi D (el j) (cj j)) ∧ cs = ccG (fun j => sgc (sg j)) cj n
/-- Facts at s; al: whether all must hold -/
def FaO (K : KE) (a d s z al : Nat) (D : Nat → Option HE) (n : Nat) (cs : List Nat) : Prop := ∃ (ea ca : Nat) (el : Nat → Nat) (cj : Nat → List Nat), (D s = some (.inr (14, [.ref (s + 1), .int (nI al)])) ∧ ¬ inB a s ∧ s + 3 ≤ z) ∧ LsX a D (s + 1) ea n ca el ∧ (s + 2 ≤ ea ∧ ea < z) ∧ (∀ j, j < n → ∃ lo hi, s + 3 ≤ lo ∧ hi ≤ z ∧ (ea < lo ∨ hi ≤ ea) ∧ TeK d K a lo hi D (el j) (cj j)) ∧ cs = ccG (fun _ => 11 - al) cj n
section PEV
variable {K : KE} {a d d' s z al n c r r1 r2 lo hi lo' hi' v j : Nat} {M : CM} {D D' : Nat → Option HE} {cs cs1 cs2 : List Nat} {h : HS} {f g : Nat → Nat} {cj cj' : Nat → List Nat}
theorem ccG_ext (h1 : ∀ j, j < n → f j = g j) (h2 : ∀ j, j < n → cj j = cj' j) : ccG f cj n = ccG g cj' n := by
  induction n with
  | zero => rfl
  | succ k ih =>
    cases k with
    | zero => exact h2 0 (by omega)
    | succ k =>
      show ccG f cj (k + 1) ++ cj (k + 1) ++ [f (k + 1)] = ccG g cj' (k + 1) ++ cj' (k + 1) ++ [g (k + 1)]
      rw [ih (fun j hj => h1 j (by omega)) (fun j hj => h2 j (by omega)), h1 _ (by omega), h2 _ (by omega)]
theorem ccG_mem : ∀ (n j : Nat), j < n → ∀ c, c ∈ cj j → c ∈ ccG f cj n
  | 1, j, hj, c, hc => by
    obtain rfl : j = 0 := by omega
    exact hc
  | k + 2, j, hj, c, hc => by
    show c ∈ ccG f cj (k + 1) ++ cj (k + 1) ++ [f (k + 1)]
    rw [List.mem_append, List.mem_append]
    by_cases q : j = k + 1
    · subst q
      exact Or.inl (Or.inr hc)
    · exact Or.inl (Or.inl (ccG_mem (k + 1) j (by omega) c hc))
theorem lkOK.sub (h : lkOK K a M cs) (q : ∀ c, c ∈ cs1 → c ∈ cs) : lkOK K a M cs1 := h.elim (fun h => Or.inl fun c hc => h c (q c hc)) Or.inr
theorem TrK.to (T : TrK d K a lo hi D r cs) (h1 : lo' ≤ lo) (h2 : hi ≤ hi') (h3 : ∀ y, lo ≤ y → y < hi → D' y = D y) (hd : d ≤ d') : TrK d' K a lo' hi' D' r cs := by
  obtain ⟨⟨t1, t2, t3⟩, ⟨ci, fs, t4, t5⟩, t6⟩ := T
  exact ⟨⟨t1, by omega, by omega⟩, ⟨ci, fs, by rw [h3 r t2 t3]; exact t4, t5⟩, fun e he M hM ob ho hl => t6 e (by omega) M (fun y x y1 y2 q => hM y x (by omega) (by omega) (by rw [h3 y y1 y2]; exact q)) ob ho hl⟩
theorem TeK.to (T : TeK d K a lo hi D r cs) (h1 : lo' ≤ lo) (h2 : hi ≤ hi') (h3 : ∀ y, lo ≤ y → y < hi → D' y = D y) (hd : d ≤ d') : TeK d' K a lo' hi' D' r cs := by
  obtain ⟨⟨t1, t2, t3⟩, ⟨ci, fs, t4, t5⟩, t6⟩ := T
  exact ⟨⟨t1, by omega, by omega⟩, ⟨ci, fs, by rw [h3 r t2 t3]; exact t4, t5⟩, fun e he M hM ob ho hl => t6 e (by omega) M (fun y x y1 y2 q => hM y x (by omega) (by omega) (by rw [h3 y y1 y2]; exact q)) ob ho hl⟩
theorem TrK.ok (T : TrK d K a lo hi D r cs) : okO a D r ∧ r < hi := by
  obtain ⟨⟨t1, t2, t3⟩, ⟨ci, fs, t4, t5⟩, t6⟩ := T
  exact ⟨⟨t1, ci, fs, t4, by omega⟩, t3⟩
theorem TeK.ok (T : TeK d K a lo hi D r cs) : okO a D r ∧ r < hi := by
  obtain ⟨⟨t1, t2, t3⟩, ⟨ci, fs, t4, t5⟩, t6⟩ := T
  exact ⟨⟨t1, ci, fs, t4, by omega⟩, t3⟩
theorem nI_64 {v : Nat} (h : v < 2 ^ 31) : (nI v).toInt64 = lN v := by
  rw [l_eq, Int32.toInt_toInt64, nI_toInt h, lN_toInt h]
-- single ones
theorem tr_num (i : ¬ inB a r) (e : D r = some (.inr (11, [.long (lN v)]))) (hv : v ≤ 9999) (h1 : lo ≤ r) (h2 : r < hi) : TrK 1 K a lo hi D r [1000 + v] := by
  refine ⟨⟨i, h1, h2⟩, ⟨11, _, e, by omega, by omega⟩, fun d' hd M hM ob ho hl => ⟨lN v, ?_, CV_num, ?_⟩⟩
  · obtain ⟨d, rfl⟩ : ∃ d, d' = d + 1 := ⟨d' - 1, by omega⟩
    have e' : M.2.2.2.1 r = some (.inr (11, [.long (lN v)])) := hM r _ h1 h2 e
    simp only [vAt, d_cls (K := K) i e', bsm, fX13_at, d_gL (K := K) (k := 0) i e' rfl]
    simp
  · rw [← nI_64 (by omega)]
    exact BD_n (by omega)
theorem tr_ask (i : ¬ inB a r) (e : D r = some (.inr (12, [.int (nI j)]))) (hj : j < 8) (h1 : lo ≤ r) (h2 : r < hi) : TrK 1 K a lo hi D r [40 + j] := by
  refine ⟨⟨i, h1, h2⟩, ⟨12, _, e, by omega, by omega⟩, fun d' hd M hM ob ho hl => ⟨clp (M.2.1 (ob + 1) j), ?_, CV_part (ev := fun j => clp (M.2.1 (ob + 1) j)) (by omega), clp_BD _⟩⟩
  obtain ⟨d, rfl⟩ : ∃ d, d' = d + 1 := ⟨d' - 1, by omega⟩
  have e' : M.2.2.2.1 r = some (.inr (12, [.int (nI j)])) := hM r _ h1 h2 e
  have g0 : gI K (hp a M) (some r) 12 0 = some (nI j) := d_gI i e' rfl
  rcases ho with rfl | rfl
  · simp only [vAt, d_cls (K := K) i e', bsm, fX14_at, g0, m_g11, c_mom hj, held_o]
    simp
  · simp only [vAt, d_cls (K := K) i e', bsm, fX14_at, g0, m_g13, c_ask hj, held_o]
    simp
theorem tr_of (i : ¬ inB a r) (e : D r = some (.inr (13, [.int 0, .ref r1, .ref a]))) (T : TrK d K a lo' hi' D r1 cs) (h1 : lo ≤ r) (h2 : r < hi) (q1 : lo ≤ lo') (q2 : hi' ≤ hi) : TrK (d + 1) K a lo hi D r (cs ++ [60]) := by
  refine ⟨⟨i, h1, h2⟩, ⟨13, _, e, by omega, by omega⟩, fun d' hd M hM ob ho hl => ?_⟩
  obtain ⟨e0, rfl⟩ : ∃ d, d' = d + 1 := ⟨d' - 1, by omega⟩
  have e' : M.2.2.2.1 r = some (.inr (13, [.int 0, .ref r1, .ref a])) := hM r _ h1 h2 e
  obtain ⟨x, x1, x2, x3⟩ := T.2.2 e0 (by omega) M (fun y x y1 y2 q => hM y x (by omega) (by omega) q) ob ho (hl.sub (fun c hc => List.mem_append_left _ hc))
  have hx : ∀ x, ∃ y, fX0_looked K (hp a M) a 0 x = some y := hl.resolve_left (fun q => q 60 (by simp) ⟨by omega, by omega⟩)
  obtain ⟨y, hy⟩ := hx x
  refine ⟨lkd K a M x, ?_, CV_of x2, clp_BD _⟩
  have g0 : gI K (hp a M) (some r) 13 0 = some 0 := d_gI i e' rfl
  have g1 : gR K (hp a M) (some r) 13 1 = some (some r1) := d_gR (x := some r1) i e' rfl
  have g2 : gR K (hp a M) (some r) 13 2 = some (some a) := d_gR (x := some a) i e' rfl
  have lk : lkd K a M x = clp y := by unfold lkd; rw [hy]; rfl
  simp only [vAt, d_cls (K := K) i e', bsm, fX15_at, g2, g0, g1, x1, x_rcv, hy, held_o, lk]
  simp
theorem tr_pair (hk : j ≤ 1) (i : ¬ inB a r) (e : D r = some (.inr (10, [.int (nI j), .ref r1, .ref r2]))) (T1 : TrK d K a lo hi D r1 cs1) (T2 : TrK d K a lo hi D r2 cs2) (h1 : lo ≤ r) (h2 : r < hi) : TrK (d + 1) K a lo hi D r (cs1 ++ cs2 ++ [5 + j]) := by
  refine ⟨⟨i, h1, h2⟩, ⟨10, _, e, by omega, by omega⟩, fun d' hd M hM ob ho hl => ?_⟩
  obtain ⟨e0, rfl⟩ : ∃ d, d' = d + 1 := ⟨d' - 1, by omega⟩
  have e' : M.2.2.2.1 r = some (.inr (10, [.int (nI j), .ref r1, .ref r2])) := hM r _ h1 h2 e
  obtain ⟨x, x1, x2, x3⟩ := T1.2.2 e0 (by omega) M hM ob ho (hl.sub (fun c hc => by simp [hc]))
  obtain ⟨y, y1, y2, y3⟩ := T2.2.2 e0 (by omega) M hM ob ho (hl.sub (fun c hc => by simp [hc]))
  have g0 : gI K (hp a M) (some r) 10 0 = some (nI j) := d_gI i e' rfl
  have g1 : gR K (hp a M) (some r) 10 1 = some (some r1) := d_gR (x := some r1) i e' rfl
  have g2 : gR K (hp a M) (some r) 10 2 = some (some r2) := d_gR (x := some r2) i e' rfl
  have st : vAt K (hp a M) (e0 + 1) (some r) (some (a + ob)) = if x ≤ y then fX12_at_35 K (hp a M) r (vAt K (hp a M) e0) x y (nI j) 0 else fX12_at_35 K (hp a M) r (vAt K (hp a M) e0) x y (nI j) 1 := by
    simp only [vAt, d_cls (K := K) i e', bsm, fX12_at, g1, x1, g2, y1, g0]
    simp
  have cv := CV_two (c := 5 + j) x2 y2 (by omega)
  rw [st]
  have n01' : ¬ (0 : Int32) = 1 := by decide
  have n10' : ¬ (1 : Int32) = 0 := by decide
  rcases Nat.le_one_iff_eq_zero_or_eq_one.mp hk with rfl | rfl
  · have ej : jn (5 + 0) x y = if y ≤ x then y else x := rfl
    rw [ej] at cv
    by_cases q : x ≤ y
    · refine ⟨x, ?_, ?_, x3⟩
      · rw [if_pos q]
        unfold fX12_at_35
        exact if_pos rfl
      · by_cases q2 : y ≤ x
        · rw [if_pos q2] at cv
          have : y = x := by rw [l_le] at q q2; rw [l_eq]; omega
          rw [← this]
          exact cv
        · rw [if_neg q2] at cv
          exact cv
    · refine ⟨y, ?_, ?_, y3⟩
      · rw [if_neg q]
        unfold fX12_at_35
        exact if_neg n01'
      · have q2 : y ≤ x := by rw [l_le] at q ⊢; omega
        rw [if_pos q2] at cv
        exact cv
  · have ej : jn (5 + 1) x y = if x ≤ y then y else x := rfl
    rw [ej] at cv
    by_cases q : x ≤ y
    · refine ⟨y, ?_, ?_, y3⟩
      · rw [if_pos q]
        unfold fX12_at_35
        exact if_neg n10'
      · rw [if_pos q] at cv
        exact cv
    · refine ⟨x, ?_, ?_, x3⟩
      · rw [if_neg q]
        unfold fX12_at_35
        exact if_pos rfl
      · rw [if_neg q] at cv
        exact cv
-- two numbers and a sign
theorem xor_s (x y : Int64) : (0 ≤ x ^^^ y) = ((0 ≤ x) ↔ (0 ≤ y)) := by
  have m : ∀ z : Int64, (0 ≤ z) = (z.toBitVec.msb = false) := fun z => by
    rw [l_le, k0l, BitVec.msb_eq_toInt]
    have : z.toInt = z.toBitVec.toInt := rfl
    rw [this]
    simp
  rw [m, m, m, Int64.toBitVec_xor, BitVec.msb_xor]
  cases x.toBitVec.msb <;> cases y.toBitVec.msb <;> simp
theorem BD_i {v : Int64} : BD v ↔ -1000000 ≤ v.toInt ∧ v.toInt ≤ 1000000 := by
  unfold BD
  rw [l_le, l_le, kM, kMm]
theorem flr_BD {x y : Int64} (hx : BD x) (hy : BD y) : BD (flr x y) := by
  rw [BD_i] at hx hy
  unfold flr
  by_cases h0 : y = 0
  · rw [if_pos h0, BD_i, k0l]
    omega
  rw [if_neg h0]
  have hm : x ≠ Int64.minValue := fun q => by
    rw [q] at hx
    have : (Int64.minValue).toInt = -9223372036854775808 := by decide
    omega
  have e1 : (x / y).toInt = x.toInt.tdiv y.toInt := Int64.toInt_div_of_ne_left _ _ hm
  have y0 : y.toInt ≠ 0 := fun q => h0 (by rw [l_eq, q, k0l])
  have b1 : (x.toInt.tdiv y.toInt).natAbs = x.toInt.natAbs / y.toInt.natAbs := Int.natAbs_tdiv _ _
  have b2 := Nat.div_le_self x.toInt.natAbs y.toInt.natAbs
  have B1 : BD (x / y) := by
    rw [BD_i, e1]
    omega
  by_cases h1 : x - x / y * y = 0
  · rw [if_pos h1]
    exact B1
  rw [if_neg h1]
  by_cases h2 : (0 ≤ x ↔ 0 ≤ y)
  · rw [if_pos h2]
    exact B1
  rw [if_neg h2]
  have y2 : 2 ≤ y.toInt.natAbs := by
    by_cases q : 2 ≤ y.toInt.natAbs
    · exact q
    · exfalso
      have q1 : y.toInt = 1 ∨ y.toInt = -1 := by omega
      apply h1
      rcases q1 with q1 | q1
      · have : y = 1 := by rw [l_eq, q1]; decide
        rw [this, Int64.div_one, Int64.mul_one, Int64.sub_self]
      · have : y = -1 := by rw [l_eq, q1]; decide
        rw [l_eq, Int64.toInt_sub, Int64.toInt_mul, e1, q1, k0l]
        have t : x.toInt.tdiv (-1) = - x.toInt := by
          rw [Int.tdiv_neg, Int.tdiv_one]
        rw [t]
        have : (-x.toInt * -1) = x.toInt := by omega
        rw [this, Int.bmod_eq_of_le (n := x.toInt) (by omega) (by omega), Int.sub_self]
        rfl
  have b3 : x.toInt.natAbs / y.toInt.natAbs ≤ x.toInt.natAbs / 2 := Nat.div_le_div_left y2 (by omega)
  have x1 : x.toInt ≠ 0 := fun q => by
    apply h1
    have : x = 0 := by rw [l_eq, q, k0l]
    rw [this, Int64.zero_div, Int64.zero_mul, Int64.sub_self]
  rw [BD_i, Int64.toInt_sub, e1, k1l, Int.bmod_eq_of_le (by omega) (by omega)]
  omega
theorem twoS {x y : Int64} (hc : sgn c) (hx : BD x) (hy : BD y) : ∃ w, fX11_two K h (nI c) x y = some w ∧ clp w = jn (sgc c) x y ∧ BD (jn (sgc c) x y) := by
  have n1 : ¬ nI 43 = (42 : Int32) := by decide
  have n2 : ¬ nI 45 = (42 : Int32) := by decide
  have n3 : ¬ nI 45 = (43 : Int32) := by decide
  have n4 : ¬ nI 45 = (44 : Int32) := by decide
  have n5 : ¬ nI 47 = (42 : Int32) := by decide
  have n6 : ¬ nI 47 = (43 : Int32) := by decide
  have n7 : ¬ nI 47 = (44 : Int32) := by decide
  have n8 : ¬ nI 47 = (45 : Int32) := by decide
  rcases hc with rfl | rfl | rfl | rfl
  · refine ⟨x + y, ?_, rfl, clp_BD _⟩
    unfold fX11_two
    rw [if_neg n1, if_pos (by decide)]
  · refine ⟨x - y, ?_, rfl, clp_BD _⟩
    unfold fX11_two
    rw [if_neg n2, if_neg n3, if_neg n4, if_pos (by decide)]
  · refine ⟨x * y, ?_, rfl, clp_BD _⟩
    unfold fX11_two
    rw [if_pos (by decide)]
  · have fb := flr_BD hx hy
    refine ⟨flr x y, ?_, ?_, fb⟩
    · unfold fX11_two
      rw [if_neg n5, if_neg n6, if_neg n7, if_neg n8]
      unfold flr
      by_cases h0 : y = 0
      · rw [if_pos h0, if_pos h0]
      · rw [if_neg h0, if_neg h0]
        have nz : nzl y = some y := by unfold nzl; rw [if_neg h0]
        have ex : ((x / y) * y = x) = (x - x / y * y = 0) := propext ⟨fun q => by rw [q, Int64.sub_self], fun q => by
          have h := congrArg (· + x / y * y) q
          simp only [Int64.sub_add_cancel, Int64.zero_add] at h
          exact h.symm⟩
        simp only [fJ12_floorDiv, nz, bsm, xor_s, ex]
        by_cases h1 : x - x / y * y = 0
        · rw [if_pos h1, if_pos h1]
          by_cases h2 : (0 ≤ x ↔ 0 ≤ y)
          · rw [if_pos h2, bsm]
          · rw [if_neg h2, bsm]
        · rw [if_neg h1, if_neg h1]
          by_cases h2 : (0 ≤ x ↔ 0 ≤ y)
          · rw [if_pos h2, if_pos h2, bsm]
          · rw [if_neg h2, if_neg h2, bsm]
    · rw [clp_id fb]
      rfl
theorem sgc_l (hc : sgn c) : 1 ≤ sgc c ∧ sgc c ≤ 4 := by
  unfold sgc
  rcases hc with rfl | rfl | rfl | rfl <;> decide
/-- a chain -/
theorem ChO.tr (C : ChO K a d s z D n cs) (hn : 1 ≤ n) (hn2 : n ≤ 2000) : TrK (d + 1) K a s z D s cs := by
  obtain ⟨ea, ba, ca, cb, el, sg, cj, ⟨e0, i0, z0⟩, X, Y, ⟨w1, w2, w3, w4⟩, kids, rfl⟩ := C
  refine ⟨⟨i0, Nat.le_refl _, by omega⟩, ⟨9, _, e0, by omega, by omega⟩, fun d' hd M hM ob ho hl => ?_⟩
  obtain ⟨e1, rfl⟩ : ∃ d, d' = d + 1 := ⟨d' - 1, by omega⟩
  have e' : M.2.2.2.1 s = some (.inr (9, [.ref (s + 1), .ref (s + 3)])) := hM s _ (by omega) (by omega) e0
  have X' := X.tm (D' := M.2.2.2.1) (fun e q => hM _ e (by omega) (by omega) q) (fun e q => hM _ e (by omega) (by omega) q)
  have Y' := Y.tm (D' := M.2.2.2.1) (fun e q => hM _ e (by omega) (by omega) q) (fun e q => hM _ e (by omega) (by omega) q)
  obtain ⟨x1, x2, x3⟩ := X'.at (K := K) (by omega)
  have g0 : gR K (hp a M) (some s) 9 0 = some (some (s + 1)) := d_gR (x := some (s + 1)) i0 e' rfl
  have g1 : gR K (hp a M) (some s) 9 1 = some (some (s + 3)) := d_gR (x := some (s + 3)) i0 e' rfl
  have kid : ∀ j, j < n → (ckL K (hp a M) (some (el j)) [9, 10, 11, 12, 13] = some ()) ∧ ∃ v, vAt K (hp a M) e1 (some (el j)) (some (a + ob)) = some v ∧ CV (fun j => clp (M.2.1 (ob + 1) j)) (lkd K a M) (cj j) v ∧ BD v := fun j hj => by
    obtain ⟨-, lo, hi, k1, k2, k3, k4, k5⟩ := kids j hj
    obtain ⟨⟨t1, t2, t3⟩, ⟨ci, fs, t4, t5⟩, t6⟩ := k5
    refine ⟨d_ckL t1 (ci := ci) (fs := fs) (hM _ _ (by omega) (by omega) t4) ?_, t6 e1 (by omega) M (fun y x y1 y2 q => hM y x (by omega) (by omega) q) ob ho (hl.sub (ccG_mem n j hj))⟩
    have : ci = 9 ∨ ci = 10 ∨ ci = 11 ∨ ci = 12 ∨ ci = 13 := by omega
    simp [this]
  have loop : ∀ (m k fu : Nat) (v : Int64), k + m = n → 1 ≤ k → m < fu → CV (fun j => clp (M.2.1 (ob + 1) j)) (lkd K a M) (ccG (fun j => sgc (sg j)) cj k) v → BD v → ∃ v', fX11_at_21 K (hp a M) s (vAt K (hp a M) e1) fu (some (a + ob)) v (nI k) = some v' ∧ CV (fun j => clp (M.2.1 (ob + 1) j)) (lkd K a M) (ccG (fun j => sgc (sg j)) cj n) v' ∧ BD v' := by
    intro m
    induction m with
    | zero =>
      intro k fu v h1 h2 h3 h4 h5
      obtain ⟨fu, rfl⟩ : ∃ n, fu = n + 1 := ⟨fu - 1, by omega⟩
      obtain rfl : k = n := by omega
      refine ⟨v, ?_, h4, h5⟩
      simp only [fX11_at_21, g0, bsm, x1, x2, nI_leE (show k < 2 ^ 31 by omega) (show k < 2 ^ 31 by omega), Nat.le_refl, if_true]
    | succ m ih =>
      intro k fu v h1 h2 h3 h4 h5
      obtain ⟨fu, rfl⟩ : ∃ n, fu = n + 1 := ⟨fu - 1, by omega⟩
      obtain ⟨c1, y, y1, y2, y3⟩ := kid k (by omega)
      have sk' := (kids k (by omega)).1
      obtain ⟨b1, b2⟩ := Y'.at (K := K) (k := k) (by omega) (by omega)
      obtain ⟨w, w5, w6, w7⟩ := twoS (K := K) (h := hp a M) sk' h5 y3
      have cv : CV (fun j => clp (M.2.1 (ob + 1) j)) (lkd K a M) (ccG (fun j => sgc (sg j)) cj (k + 1)) (jn (sgc (sg k)) v y) := by
        obtain ⟨k', rfl⟩ : ∃ k', k = k' + 1 := ⟨k - 1, by omega⟩
        exact CV_two (c := sgc (sg (k' + 1))) h4 y2 (by have := sgc_l sk'; omega)
      obtain ⟨v', v1, v2⟩ := ih (k + 1) fu (jn (sgc (sg k)) v y) (by omega) (by omega) (by omega) cv w7
      refine ⟨v', ?_, v2⟩
      rw [← v1]
      simp only [fX11_at_21, g0, bsm, x1, x2, nI_leE (show n < 2 ^ 31 by omega) (show k < 2 ^ 31 by omega), if_neg (show ¬ n ≤ k by omega), g1, b1, b2, x3 k (by omega), c1, y1, w5, held_o, w6, nI_1]
  obtain ⟨c1, y, y1, y2, y3⟩ := kid 0 (by omega)
  obtain ⟨v', v1, v2, v3⟩ := loop (n - 1) 1 FU y (by omega) (by omega) (FU_lt (by omega)) y2 y3
  refine ⟨v', ?_, v2, v3⟩
  have x30 := x3 0 (by omega)
  rw [show nI 0 = (0 : Int32) from rfl] at x30
  rw [show nI 1 = (1 : Int32) from rfl] at v1
  simp only [vAt, d_cls (K := K) i0 e', bsm, fX11_at, g0, x1, x30, c1, y1, v1]
  simp
-- tests
theorem te_all (i : ¬ inB a r) (e : D r = some (.inr (16, []))) (h1 : lo ≤ r) (h2 : r < hi) : TeK 1 K a lo hi D r [13] := by
  refine ⟨⟨i, h1, h2⟩, ⟨16, _, e, by omega, by omega⟩, fun d' hd M hM ob ho hl => ⟨1, by omega, ?_, CV_all⟩⟩
  obtain ⟨d, rfl⟩ : ∃ d, d' = d + 1 := ⟨d' - 1, by omega⟩
  have e' : M.2.2.2.1 r = some (.inr (16, [])) := hM r _ h1 h2 e
  simp only [vHo, d_cls (K := K) i e', bsm, fX19_holds]
  simp
  rfl
theorem te_not (i : ¬ inB a r) (e : D r = some (.inr (15, [.ref r1]))) (T : TeK d K a lo' hi' D r1 cs) (h1 : lo ≤ r) (h2 : r < hi) (q1 : lo ≤ lo') (q2 : hi' ≤ hi) : TeK (d + 1) K a lo hi D r (cs ++ [12]) := by
  refine ⟨⟨i, h1, h2⟩, ⟨15, _, e, by omega, by omega⟩, fun d' hd M hM ob ho hl => ?_⟩
  obtain ⟨e0, rfl⟩ : ∃ d, d' = d + 1 := ⟨d' - 1, by omega⟩
  have e' : M.2.2.2.1 r = some (.inr (15, [.ref r1])) := hM r _ h1 h2 e
  obtain ⟨b, b0, b1, b2⟩ := T.2.2 e0 (by omega) M (fun y x y1 y2 q => hM y x (by omega) (by omega) q) ob ho (hl.sub (fun c hc => List.mem_append_left _ hc))
  have g1 : gR K (hp a M) (some r) 15 0 = some (some r1) := d_gR (x := some r1) i e' rfl
  have cv := CV_not b2
  have e1 : (1 : Int64) - lN b = lN (1 - b) := lN_sub (a := 1) (by omega)
  rw [e1] at cv
  refine ⟨1 - b, by omega, ?_, cv⟩
  have st : vHo K (hp a M) (e0 + 1) (some r) (some (a + ob)) = if nI b = 0 then some (1 : Int32) else some 0 := by
    simp only [vHo, d_cls (K := K) i e', bsm, fX18_holds, g1, b1]
    simp
  rw [st]
  simp only [nI_eq0 (show b < 2 ^ 31 by omega)]
  by_cases q : b = 0
  · rw [if_pos q, q]
    rfl
  · obtain rfl : b = 1 := by omega
    rw [if_neg q]
    rfl
theorem te_than (hj : j = 60 ∨ j = 62 ∨ j = 61) (i : ¬ inB a r) (e : D r = some (.inr (17, [.ref r1, .ref r2, .int (nI j)]))) (T1 : TrK d K a lo hi D r1 cs1) (T2 : TrK d K a lo hi D r2 cs2) (hd : d ≤ 64) (h1 : lo ≤ r) (h2 : r < hi) : TeK 1 K a lo hi D r (cs1 ++ cs2 ++ [if j = 60 then 7 else if j = 62 then 8 else 9]) := by
  refine ⟨⟨i, h1, h2⟩, ⟨17, _, e, by omega, by omega⟩, fun d' hd' M hM ob ho hl => ?_⟩
  obtain ⟨e0, rfl⟩ : ∃ d, d' = d + 1 := ⟨d' - 1, by omega⟩
  have e' : M.2.2.2.1 r = some (.inr (17, [.ref r1, .ref r2, .int (nI j)])) := hM r _ h1 h2 e
  obtain ⟨x, x1, x2, x3⟩ := T1.2.2 64 hd M hM ob ho (hl.sub (fun c hc => by simp [hc]))
  obtain ⟨y, y1, y2, y3⟩ := T2.2.2 64 hd M hM ob ho (hl.sub (fun c hc => by simp [hc]))
  have g0 : gR K (hp a M) (some r) 17 0 = some (some r1) := d_gR (x := some r1) i e' rfl
  have g1 : gR K (hp a M) (some r) 17 1 = some (some r2) := d_gR (x := some r2) i e' rfl
  have g2 : gI K (hp a M) (some r) 17 2 = some (nI j) := d_gI i e' rfl
  have m1 : ¬ nI 62 = (60 : Int32) := by decide
  have m2 : ¬ nI 61 = (60 : Int32) := by decide
  have m3 : ¬ nI 61 = (62 : Int32) := by decide
  have z0 : lN 0 = 0 := rfl
  have z1 : lN 1 = 1 := rfl
  rcases hj with rfl | rfl | rfl
  · have cv : CV (fun j => clp (M.2.1 (ob + 1) j)) (lkd K a M) (cs1 ++ cs2 ++ [7]) (if y ≤ x then 0 else 1) := CV_two (c := 7) x2 y2 (by omega)
    by_cases q : y ≤ x
    · rw [if_pos q, ← z0] at cv
      refine ⟨0, by omega, ?_, cv⟩
      simp only [vHo, d_cls (K := K) i e', bsm, fX20_holds, g0, g1, g2, x1, y1, if_pos (show nI 60 = (60 : Int32) from rfl), if_pos q]
      simp
      rfl
    · rw [if_neg q, ← z1] at cv
      refine ⟨1, by omega, ?_, cv⟩
      simp only [vHo, d_cls (K := K) i e', bsm, fX20_holds, g0, g1, g2, x1, y1, if_pos (show nI 60 = (60 : Int32) from rfl), if_neg q]
      simp
      rfl
  · have cv : CV (fun j => clp (M.2.1 (ob + 1) j)) (lkd K a M) (cs1 ++ cs2 ++ [8]) (if x ≤ y then 0 else 1) := CV_two (c := 8) x2 y2 (by omega)
    by_cases q : x ≤ y
    · rw [if_pos q, ← z0] at cv
      refine ⟨0, by omega, ?_, cv⟩
      simp only [vHo, d_cls (K := K) i e', bsm, fX20_holds, g0, g1, g2, x1, y1, if_neg m1, if_pos (show nI 62 = (62 : Int32) from rfl), if_pos q]
      simp
      rfl
    · rw [if_neg q, ← z1] at cv
      refine ⟨1, by omega, ?_, cv⟩
      simp only [vHo, d_cls (K := K) i e', bsm, fX20_holds, g0, g1, g2, x1, y1, if_neg m1, if_pos (show nI 62 = (62 : Int32) from rfl), if_neg q]
      simp
      rfl
  · have cv : CV (fun j => clp (M.2.1 (ob + 1) j)) (lkd K a M) (cs1 ++ cs2 ++ [9]) (if x = y then 1 else 0) := CV_two (c := 9) x2 y2 (by omega)
    by_cases q : x = y
    · rw [if_pos q, ← z1] at cv
      refine ⟨1, by omega, ?_, cv⟩
      simp only [vHo, d_cls (K := K) i e', bsm, fX20_holds, g0, g1, g2, x1, y1, if_neg m2, if_neg m3, if_pos q]
      simp
      rfl
    · rw [if_neg q, ← z0] at cv
      refine ⟨0, by omega, ?_, cv⟩
      simp only [vHo, d_cls (K := K) i e', bsm, fX20_holds, g0, g1, g2, x1, y1, if_neg m2, if_neg m3, if_neg q]
      simp
      rfl
theorem jn_b {b c : Nat} (hb : b < 2) (hc : c < 2) (ha : al < 2) : ∃ e, e < 2 ∧ jn (11 - al) (lN b) (lN c) = lN e ∧ (e = al ↔ b = al ∧ c = al) := by
  have hb' : b = 0 ∨ b = 1 := by omega
  have hc' : c = 0 ∨ c = 1 := by omega
  have ha' : al = 0 ∨ al = 1 := by omega
  rcases ha' with rfl | rfl <;> rcases hb' with rfl | rfl <;> rcases hc' with rfl | rfl
  · exact ⟨0, by decide, by decide, by decide⟩
  · exact ⟨1, by decide, by decide, by decide⟩
  · exact ⟨1, by decide, by decide, by decide⟩
  · exact ⟨1, by decide, by decide, by decide⟩
  · exact ⟨0, by decide, by decide, by decide⟩
  · exact ⟨0, by decide, by decide, by decide⟩
  · exact ⟨0, by decide, by decide, by decide⟩
  · exact ⟨1, by decide, by decide, by decide⟩
theorem FaO.te (C : FaO K a d s z al D n cs) (ha : al < 2) (hn : 1 ≤ n) (hn2 : n ≤ 2000) : TeK (d + 1) K a s z D s cs := by
  obtain ⟨ea, ca, el, cj, ⟨e0, i0, z0⟩, X, ⟨w1, w2⟩, kids, rfl⟩ := C
  refine ⟨⟨i0, Nat.le_refl _, by omega⟩, ⟨14, _, e0, by omega, by omega⟩, fun d' hd M hM ob ho hl => ?_⟩
  obtain ⟨e1, rfl⟩ : ∃ d, d' = d + 1 := ⟨d' - 1, by omega⟩
  have e' : M.2.2.2.1 s = some (.inr (14, [.ref (s + 1), .int (nI al)])) := hM s _ (by omega) (by omega) e0
  have X' := X.tm (D' := M.2.2.2.1) (fun e q => hM _ e (by omega) (by omega) q) (fun e q => hM _ e (by omega) (by omega) q)
  obtain ⟨x1, x2, x3⟩ := X'.at (K := K) (by omega)
  have g0 : gR K (hp a M) (some s) 14 0 = some (some (s + 1)) := d_gR (x := some (s + 1)) i0 e' rfl
  have g1 : gI K (hp a M) (some s) 14 1 = some (nI al) := d_gI i0 e' rfl
  have kid : ∀ j, ∃ b : Nat, j < n → (ckL K (hp a M) (some (el j)) [14, 15, 16, 17] = some ()) ∧ b < 2 ∧ vHo K (hp a M) e1 (some (el j)) (some (a + ob)) = some (nI b) ∧ CV (fun j => clp (M.2.1 (ob + 1) j)) (lkd K a M) (cj j) (lN b) := fun j => by
    by_cases hj : j < n
    · obtain ⟨lo, hi, k1, k2, k3, k5⟩ := kids j hj
      obtain ⟨⟨t1, t2, t3⟩, ⟨ci, fs, t4, t5⟩, t6⟩ := k5
      obtain ⟨b, b1, b2, b3⟩ := t6 e1 (by omega) M (fun y x y1 y2 q => hM y x (by omega) (by omega) q) ob ho (hl.sub (ccG_mem n j hj))
      refine ⟨b, fun _ => ⟨d_ckL t1 (ci := ci) (fs := fs) (hM _ _ (by omega) (by omega) t4) ?_, b1, b2, b3⟩⟩
      have : ci = 14 ∨ ci = 15 ∨ ci = 16 ∨ ci = 17 := by omega
      simp [this]
    · exact ⟨0, fun q => absurd q hj⟩
  obtain ⟨bj, hbj⟩ : ∃ bj : Nat → Nat, ∀ j, j < n → (ckL K (hp a M) (some (el j)) [14, 15, 16, 17] = some ()) ∧ bj j < 2 ∧ vHo K (hp a M) e1 (some (el j)) (some (a + ob)) = some (nI (bj j)) ∧ CV (fun j => clp (M.2.1 (ob + 1) j)) (lkd K a M) (cj j) (lN (bj j)) := ⟨fun j => (kid j).choose, fun j => (kid j).choose_spec⟩
  have fold : ∀ k, k < n → ∃ b, b < 2 ∧ CV (fun j => clp (M.2.1 (ob + 1) j)) (lkd K a M) (ccG (fun _ => 11 - al) cj (k + 1)) (lN b) ∧ (b = al ↔ ∀ j, j < k + 1 → bj j = al) := by
    intro k
    induction k with
    | zero =>
      intro hk
      obtain ⟨-, q1, -, q3⟩ := hbj 0 hk
      exact ⟨bj 0, q1, q3, ⟨fun q j hj => by obtain rfl : j = 0 := by omega
                                             exact q, fun q => q 0 (by omega)⟩⟩
    | succ k ih =>
      intro hk
      obtain ⟨b, b1, b2, b3⟩ := ih (by omega)
      obtain ⟨-, q1, -, q3⟩ := hbj (k + 1) hk
      obtain ⟨e, f1, f2, f3⟩ := jn_b b1 q1 ha
      have cv : CV (fun j => clp (M.2.1 (ob + 1) j)) (lkd K a M) (ccG (fun _ => 11 - al) cj (k + 1 + 1)) (jn (11 - al) (lN b) (lN (bj (k + 1)))) := CV_two (c := 11 - al) b2 q3 (by omega)
      rw [f2] at cv
      refine ⟨e, f1, cv, ?_⟩
      rw [f3, b3]
      refine ⟨fun q j hj => ?_, fun q => ⟨fun j hj => q j (by omega), q _ (by omega)⟩⟩
      by_cases y : j = k + 1
      · subst y; exact q.2
      · exact q.1 j (by omega)
  obtain ⟨b, b1, b2, b3⟩ := fold (n - 1) (by omega)
  rw [show n - 1 + 1 = n by omega] at b2 b3
  refine ⟨b, b1, ?_, b2⟩
  have loop : ∀ (m k fu : Nat), k + m = n → m < fu → (∀ j, j < k → bj j = al) → fX17_holds_2 K (hp a M) s (vHo K (hp a M) e1) fu (some (a + ob)) (nI k) = some (nI b) := by
    intro m
    induction m with
    | zero =>
      intro k fu h1 h2 h3
      obtain ⟨fu, rfl⟩ : ∃ n, fu = n + 1 := ⟨fu - 1, by omega⟩
      obtain rfl : k = n := by omega
      have eb : b = al := b3.mpr h3
      have zz : zr (nI al) = some (nI al) := by
        have : al = 0 ∨ al = 1 := by omega
        rcases this with rfl | rfl <;> decide
      simp only [fX17_holds_2, g0, bsm, x1, x2, nI_leE (show k < 2 ^ 31 by omega) (show k < 2 ^ 31 by omega), Nat.le_refl, if_true, g1, zz, eb]
    | succ m ih =>
      intro k fu h1 h2 h3
      obtain ⟨fu, rfl⟩ : ∃ n, fu = n + 1 := ⟨fu - 1, by omega⟩
      obtain ⟨q0, q1, q2, -⟩ := hbj k (by omega)
      have kk : (nI (bj k) = nI al) = (bj k = al) := nI_eqE (by omega) (by omega)
      have k0 : (nI al = 0) = (al = 0) := nI_eq0 (by omega)
      have st : fX17_holds_2 K (hp a M) s (vHo K (hp a M) e1) (fu + 1) (some (a + ob)) (nI k) = if bj k = al then fX17_holds_2 K (hp a M) s (vHo K (hp a M) e1) fu (some (a + ob)) (nI (k + 1)) else if al = 0 then some (1 : Int32) else some 0 := by
        simp only [fX17_holds_2, g0, bsm, x1, x2, nI_leE (show n < 2 ^ 31 by omega) (show k < 2 ^ 31 by omega), if_neg (show ¬ n ≤ k by omega), x3 k (by omega), q0, q2, g1, kk, k0, nI_1]
      rw [st]
      by_cases q : bj k = al
      · rw [if_pos q]
        exact ih (k + 1) fu (by omega) (by omega) (fun j hj => by
          by_cases y : j = k
          · subst y; exact q
          · exact h3 j (by omega))
      · rw [if_neg q]
        have nb : b ≠ al := fun y => q (b3.mp y k (by omega))
        by_cases y : al = 0
        · rw [if_pos y]
          obtain rfl : b = 1 := by omega
          rfl
        · rw [if_neg y]
          obtain rfl : b = 0 := by omega
          rfl
  have L0 := loop n 0 FU (by omega) (FU_lt (by omega)) (fun j hj => absurd hj (by omega))
  rw [show nI 0 = (0 : Int32) from rfl] at L0
  simp only [vHo, d_cls (K := K) i0 e', bsm, fX17_holds, L0]
  simp
end PEV

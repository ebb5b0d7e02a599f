/-! PLAIN LAW, what is read of the house: both sides -/
set_option maxRecDepth 100000
theorem SameH.mI {M M' : CM} {o k : Nat} {v : Int32} (h : SameH M M') : SameH M (mI M' o k v) := h
theorem SameH.mL {M M' : CM} {o k : Nat} {v : Int64} (h : SameH M M') : SameH M (mL M' o k v) := h
theorem c_is (K : KE) (h : HS) (x y z : Int32) : fX0_is K h x y z = if x < y ∨ z < x then some 0 else some 1 := by
  unfold fX0_is
  by_cases h1 : x < y
  · simp [h1]
  · by_cases h2 : z < x <;> simp [h1, h2]
theorem t_is (σ : MS) (x y z : Int32) : fX6_isIn σ x.toInt64 y.toInt64 z.toInt64 = if x < y ∨ z < x then some 0 else some 1 := by
  unfold fX6_isIn
  simp only [Int32.toInt64_lt]
  by_cases h1 : x < y
  · simp [h1]
  · by_cases h2 : z < x <;> simp [h1, h2]
theorem lk0 : (0 : Int64) = (0 : Int32).toInt64 := by decide
theorem lk1 : (1 : Int64) = (1 : Int32).toInt64 := by decide
theorem lk2 : (2 : Int64) = (2 : Int32).toInt64 := by decide
theorem lk3 : (3 : Int64) = (3 : Int32).toInt64 := by decide
theorem lk5 : (5 : Int64) = (5 : Int32).toInt64 := by decide
theorem lk23 : (23 : Int64) = (23 : Int32).toInt64 := by decide
theorem sub1_lt {n : Nat} (hn : n < 2 ^ 31) (x : Int32) : (nI n - 1 < x) = (nI n ≤ x) := by
  rw [Int32.lt_iff_toInt_lt, Int32.le_iff_toInt_le, nI_toInt hn]
  have e : (nI n - 1).toInt = (n : Int) - 1 := by
    rcases Nat.eq_zero_or_pos n with h | h
    · subst h; decide
    · rw [nI_m1 h, nI_toInt (by omega)]; omega
  rw [e]
  exact propext ⟨fun q => by omega, fun q => by omega⟩
section PRD
variable {K : KE} {a n k f p : Nat} {M M' : CM} {σ : MS} {nk nf np : Nat} {pt : Nat → Nat} {vl vf vm : Option Nat}
theorem HX.t3 (X : HX a M σ nk nf np pt vl vf vm) : fX6_kindMany σ = some (nI nk) ∧ fX6_filmMany σ = some (nI nf) ∧ fX6_personMany σ = some (nI np) := by
  obtain ⟨h1, h2, h3⟩ := X.v.2.1
  refine ⟨?_, ?_, ?_⟩
  · simp only [fX6_kindMany, ki3, tg40 (i := 3) (by omega), bsm, h1]
  · simp only [fX6_filmMany, ki4, tg40 (i := 4) (by omega), bsm, h2]
  · simp only [fX6_personMany, ki5, tg40 (i := 5) (by omega), bsm, h3]
theorem HX.kindM (X : HX a M σ nk nf np pt vl vf vm) : fX6_kindMany σ = some (nI nk) := X.t3.1
theorem HX.filmM (X : HX a M σ nk nf np pt vl vf vm) : fX6_filmMany σ = some (nI nf) := X.t3.2.1
theorem HX.persM (X : HX a M σ nk nf np pt vl vf vm) : fX6_personMany σ = some (nI np) := X.t3.2.2
theorem HX.isFilm (K : KE) (X : HX a M σ nk nf np pt vl vf vm) (x : Int32) : (∃ f, f < nf ∧ x = nI f ∧ (∀ M', SameH M M' → fX0_isFilm K (hp a M') a x = some 1) ∧ fX6_isFilm σ x = some 1) ∨ ((∀ M', SameH M M' → fX0_isFilm K (hp a M') a x = some 0) ∧ fX6_isFilm σ x = some 0) := by
  have b := X.bk
  simp only [fX0_isFilm, fX6_isFilm, X.filmM, bsm, x_rcv, lk0, t_is, sub1_lt (show nf < 2 ^ 31 by omega)]
  rcases pk_ix x (n := nf) (by omega) with h | h | ⟨j, h, rfl⟩
  · refine Or.inr ⟨fun M' e => by rw [if_pos h], ?_⟩
    rw [if_pos (Or.inl h)]
    rfl
  · refine Or.inr ⟨fun M' e => ?_, ?_⟩
    · rw [X.films e]
      by_cases h0 : x < 0
      · rw [if_pos h0]
      · rw [if_neg h0, bsm, if_pos h]
    · rw [if_pos (Or.inr h)]
      rfl
  · have h1 := nI_pos (n := j) (by omega)
    have h2 := nI_ge h (show nf < 2 ^ 31 by omega)
    refine Or.inl ⟨j, h, rfl, fun M' e => ?_, ?_⟩
    · rw [if_neg h1, X.films e, bsm, if_neg h2]
    · rw [if_neg (fun q => q.elim h1 h2)]
      rfl
theorem HX.isKind (K : KE) (X : HX a M σ nk nf np pt vl vf vm) (x : Int32) : (∃ f, f < nk ∧ x = nI f ∧ (∀ M', SameH M M' → fX0_isKind K (hp a M') a x = some 1) ∧ fX6_isKind σ x = some 1) ∨ ((∀ M', SameH M M' → fX0_isKind K (hp a M') a x = some 0) ∧ fX6_isKind σ x = some 0) := by
  have b := X.bk
  simp only [fX0_isKind, fX6_isKind, X.kindM, bsm, x_rcv, lk0, t_is, sub1_lt (show nk < 2 ^ 31 by omega)]
  rcases pk_ix x (n := nk) (by omega) with h | h | ⟨j, h, rfl⟩
  · refine Or.inr ⟨fun M' e => by rw [if_pos h], ?_⟩
    rw [if_pos (Or.inl h)]
    rfl
  · refine Or.inr ⟨fun M' e => ?_, ?_⟩
    · rw [X.kinds e]
      by_cases h0 : x < 0
      · rw [if_pos h0]
      · rw [if_neg h0, bsm, if_pos h]
    · rw [if_pos (Or.inr h)]
      rfl
  · have h1 := nI_pos (n := j) (by omega)
    have h2 := nI_ge h (show nk < 2 ^ 31 by omega)
    refine Or.inl ⟨j, h, rfl, fun M' e => ?_, ?_⟩
    · rw [if_neg h1, X.kinds e, bsm, if_neg h2]
    · rw [if_neg (fun q => q.elim h1 h2)]
      rfl
theorem HX.isPers (K : KE) (X : HX a M σ nk nf np pt vl vf vm) (x : Int32) : (∃ f, f < np ∧ x = nI f ∧ (∀ M', SameH M M' → fX0_isPerson K (hp a M') a x = some 1) ∧ fX6_isPerson σ x = some 1) ∨ ((∀ M', SameH M M' → fX0_isPerson K (hp a M') a x = some 0) ∧ fX6_isPerson σ x = some 0) := by
  have b := X.bk
  simp only [fX0_isPerson, fX6_isPerson, X.persM, bsm, x_rcv, lk0, t_is, sub1_lt (show np < 2 ^ 31 by omega)]
  rcases pk_ix x (n := np) (by omega) with h | h | ⟨j, h, rfl⟩
  · refine Or.inr ⟨fun M' e => by rw [if_pos h], ?_⟩
    rw [if_pos (Or.inl h)]
    rfl
  · refine Or.inr ⟨fun M' e => ?_, ?_⟩
    · rw [X.people e]
      by_cases h0 : x < 0
      · rw [if_pos h0]
      · rw [if_neg h0, bsm, if_pos h]
    · rw [if_pos (Or.inr h)]
      rfl
  · have h1 := nI_pos (n := j) (by omega)
    have h2 := nI_ge h (show np < 2 ^ 31 by omega)
    refine Or.inl ⟨j, h, rfl, fun M' e => ?_, ?_⟩
    · rw [if_neg h1, X.people e, bsm, if_neg h2]
    · rw [if_neg (fun q => q.elim h1 h2)]
      rfl
/-- a film's worth -/
def wv (σ : MS) (nk p f : Nat) : Int32 := lp (fun k x => x + σ.2.2.1 43 (48 + 6 * f + k) * σ.2.2.1 45 (30 + 6 * p + k)) 0 nk
theorem HX.worthC (X : HX a M σ nk nf np pt vl vf vm) (hp' : p < np) (hf : f < nf) (e : SameH M M') : fX0_worthOf K (hp a M') a (nI p) (nI f) = some (wv σ nk p f) := by
  have b := X.bk
  obtain ⟨fa, ia, f1, f2, f3, f4⟩ := X.film K hf
  obtain ⟨pa, ja, p1, p2, p3, p4, p5⟩ := X.person K hp'
  refine lpF (F := fun n x i => fX0_worthOf_5 K (hp a M') a n (nI p) (nI f) x i) (N := nk) (g := fun k x => x + σ.2.2.1 43 (48 + 6 * f + k) * σ.2.2.1 45 (30 + 6 * p + k)) (r := some) (x := 0) (fun n k hk => ?_) (fun n => ?_) (FU_lt (by omega))
  · simp only [fX0_worthOf_5, x_rcv, X.kinds e, bsm, if_neg (nI_ge hk (show nk < 2 ^ 31 by omega)), f1 M' e, f3 M' e, f4 M' k e (by omega), p1 M' e, p4 M' e, p5 M' k e (by omega), nI_1, lp]
  · simp only [fX0_worthOf_5, x_rcv, X.kinds e, bsm, if_pos (nI_le (Nat.le_refl nk) (show nk < 2 ^ 31 by omega))]
theorem HX.worthT (X : HX a M σ nk nf np pt vl vf vm) (hp' : p < np) (hf : f < nf) : fX6_worthOf σ (nI p) (nI f) = some (wv σ nk p f) := by
  have b := X.bk
  refine lpF (F := fun n x i => fX6_worthOf_5 σ n (nI p) (nI f) x i) (N := nk) (g := fun k x => x + σ.2.2.1 43 (48 + 6 * f + k) * σ.2.2.1 45 (30 + 6 * p + k)) (r := some) (x := 0) (fun n k hk => ?_) (fun n => ?_) (FU_lt (by omega))
  · simp only [fX6_worthOf_5, X.kindM, bsm, if_neg (nI_ge hk (show nk < 2 ^ 31 by omega)), fX6_weightOf, fX6_likesOf, ki48, ki6, ki30, nI_mul, nI_add, tg43 (i := 48 + 6 * f + k) (by omega), tg45 (i := 30 + 6 * p + k) (by omega), nI_1, lp]
  · simp only [fX6_worthOf_5, X.kindM, bsm, if_pos (nI_le (Nat.le_refl nk) (show nk < 2 ^ 31 by omega))]
theorem lp_cong {α : Type} {g g' : Nat → α → α} {x : α} {n : Nat} (h : ∀ k, k < n → g k = g' k) : lp g x n = lp g' x n := by
  induction n with
  | zero => rfl
  | succ n ih => simp only [lp]; rw [ih (fun k hk => h k (by omega)), h n (by omega)]
theorem lp_bnd {g : Nat → Int32} {n m b0 : Nat} (x0 : Int32) (hx : bnd x0 b0) (h : ∀ k, k < n → bnd (g k) m) (hb : b0 + n * m < 2 ^ 31) : bnd (lp (fun k x => x + g k) x0 n) (b0 + n * m) := by
  induction n with
  | zero => obtain ⟨k, h1, h2⟩ := hx; exact ⟨k, by omega, h2⟩
  | succ n ih =>
    have e : (n + 1) * m = n * m + m := by rw [Nat.succ_mul]
    obtain ⟨k, h1, h2⟩ := ih (fun k hk => h k (by omega)) (by omega)
    obtain ⟨j, h3, h4⟩ := h n (by omega)
    refine ⟨k + j, by omega, ?_⟩
    simp only [lp]
    rw [h2, h4, nI_add]
theorem bnd_mul {x y : Int32} {m n : Nat} (h : bnd x m) (g : bnd y n) : bnd (x * y) (m * n) := by
  obtain ⟨i, h1, rfl⟩ := h
  obtain ⟨j, h2, rfl⟩ := g
  exact ⟨i * j, Nat.mul_le_mul h1 h2, nI_mul i j⟩
theorem bnd_mono {x : Int32} {m n : Nat} (h : bnd x m) (g : m ≤ n) : bnd x n := by
  obtain ⟨i, h1, h2⟩ := h
  exact ⟨i, by omega, h2⟩
theorem HX.worthB (X : HX a M σ nk nf np pt vl vf vm) (hp' : p < np) (hf : f < nf) : bnd (wv σ nk p f) 486 := by
  have b := X.bk
  obtain ⟨-, -, -, -, v1, v2, -⟩ := X.v
  refine bnd_mono (lp_bnd (m := 81) (b0 := 0) 0 ⟨0, by omega, rfl⟩ (fun k hk => bnd_mul (v1 f k hf (by omega)) (v2 p k hp' (by omega))) (by omega)) (by omega)
theorem HX.free (K : KE) (X : HX a M σ nk nf np pt vl vf vm) (hp' : p < np) (x : Int32) : ∃ v, (∀ M', SameH M M' → fX0_isFree K (hp a M') a (nI p) x = some v) ∧ fX6_isFree σ (nI p) x = some v ∧ (v = 0 ∨ v = 1) := by
  have b := X.bk
  obtain ⟨pa, ja, p1, p2, p3, p4, p5⟩ := X.person K hp'
  by_cases h : x < σ.2.2.1 44 (10 + 2 * p) ∨ σ.2.2.1 44 (11 + 2 * p) < x
  · refine ⟨0, fun M' e => ?_, ?_, Or.inl rfl⟩
    · simp only [fX0_isFree, x_rcv, bsm, p1 M' e, p2 M' e, p3 M' e, c_is, if_pos h]
      rfl
    · simp only [fX6_isFree, ki10, ki11, ki2, nI_mul, nI_add, tg44 (i := 10 + 2 * p) (by omega), tg44 (i := 11 + 2 * p) (by omega), bsm, t_is, if_pos h]
      rfl
  · refine ⟨1, fun M' e => ?_, ?_, Or.inr rfl⟩
    · simp only [fX0_isFree, x_rcv, bsm, p1 M' e, p2 M' e, p3 M' e, c_is, if_neg h]
      rfl
    · simp only [fX6_isFree, ki10, ki11, ki2, nI_mul, nI_add, tg44 (i := 10 + 2 * p) (by omega), tg44 (i := 11 + 2 * p) (by omega), bsm, t_is, if_neg h]
      rfl
end PRD

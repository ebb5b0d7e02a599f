/-! PLAIN LAW, loops of two sides; the house that stands -/
set_option maxRecDepth 100000
theorem lpB {α β γ δ : Type} {F : Nat → α → Int32 → Option β} {G : Nat → γ → Int32 → Option δ} {N : Nat} {I : Nat → α → γ → Prop} {P : Option β → Option δ → Prop}
    (st : ∀ n m x y k, k < N → I k x y → (∃ x' y', I (k + 1) x' y' ∧ F (n + 1) x (nI k) = F n x' (nI (k + 1)) ∧ G (m + 1) y (nI k) = G m y' (nI (k + 1))) ∨ P (F (n + 1) x (nI k)) (G (m + 1) y (nI k)))
    (en : ∀ n m x y, I N x y → P (F (n + 1) x (nI N)) (G (m + 1) y (nI N))) : ∀ (d k : Nat), k + d = N → ∀ (f1 f2 : Nat) (x : α) (y : γ), d < f1 → d < f2 → I k x y → P (F f1 x (nI k)) (G f2 y (nI k)) := by
  intro d
  induction d with
  | zero =>
    intro k hk f1 f2 x y h1 h2 hI
    obtain ⟨n, rfl⟩ : ∃ n, f1 = n + 1 := ⟨f1 - 1, by omega⟩
    obtain ⟨m, rfl⟩ : ∃ n, f2 = n + 1 := ⟨f2 - 1, by omega⟩
    have : k = N := by omega
    subst this
    exact en n m x y hI
  | succ d ih =>
    intro k hk f1 f2 x y h1 h2 hI
    obtain ⟨n, rfl⟩ : ∃ n, f1 = n + 1 := ⟨f1 - 1, by omega⟩
    obtain ⟨m, rfl⟩ : ∃ n, f2 = n + 1 := ⟨f2 - 1, by omega⟩
    rcases st n m x y k (by omega) hI with ⟨x', y', hI', e1, e2⟩ | hP
    · rw [e1, e2]
      exact ih (k + 1) (by omega) n m x' y' (by omega) (by omega) hI'
    · exact hP
/-- the same, from nought on with all the fuel -/
theorem lp2z {α β γ δ : Type} {F : Nat → α → Int32 → Option β} {G : Nat → γ → Int32 → Option δ} {N : Nat} {I : Nat → α → γ → Prop} {P : Option β → Option δ → Prop} {x : α} {y : γ} (hN : N < 100000) (h0 : I 0 x y)
    (st : ∀ n m x y k, k < N → I k x y → (∃ x' y', I (k + 1) x' y' ∧ F (n + 1) x (nI k) = F n x' (nI (k + 1)) ∧ G (m + 1) y (nI k) = G m y' (nI (k + 1))) ∨ P (F (n + 1) x (nI k)) (G (m + 1) y (nI k)))
    (en : ∀ n m x y, I N x y → P (F (n + 1) x (nI N)) (G (m + 1) y (nI N))) : P (F FU x 0) (G FU y 0) :=
  lpB (F := F) (G := G) (I := I) (P := P) st en N 0 (by omega) FU FU x y hN hN h0
/-- one loop, from nought on -/
theorem lp1z {α β : Type} {F : Nat → α → Int32 → Option β} {N : Nat} {I : Nat → α → Prop} {P : Option β → Prop} {x : α} (hN : N < 100000) (h0 : I 0 x)
    (st : ∀ n x k, k < N → I k x → (∃ x', I (k + 1) x' ∧ F (n + 1) x (nI k) = F n x' (nI (k + 1))) ∨ P (F (n + 1) x (nI k)))
    (en : ∀ n x, I N x → P (F (n + 1) x (nI N))) : P (F FU x 0) :=
  lpR (F := F) (I := I) (P := P) st en N 0 (by omega) FU x hN h0
def SameH (M M' : CM) : Prop := M'.2.2.1 0 0 = M.2.2.1 0 0 ∧ M'.2.2.2.1 = M.2.2.2.1
theorem SameH.refl (M : CM) : SameH M M := ⟨rfl, rfl⟩
theorem SameH.tr {M M1 M2 : CM} (h : SameH M M1) (g : SameH M1 M2) : SameH M M2 := ⟨g.1.trans h.1, g.2.trans h.2⟩
/-- an ArrayList of n things -/
def LsO (a : Nat) (D : Nat → Option HE) (la n : Nat) (el : Nat → Nat) : Prop := ¬ inB a la ∧ ∃ (ea cap : Nat) (mc : Int32) (f : Nat → Option Nat), ¬ inB a ea ∧ D la = some (.inr (19, [.int mc, .ref ea, .int (nI n)])) ∧ D ea = some (rA 5 cap f) ∧ n ≤ cap ∧ cap < 2 ^ 20 ∧ ∀ j, j < n → f j = some (el j) ∧ ¬ inB a (el j)
/-- a name as a number: digits 1 .. 26 -/
def b27 (f : Nat → Int32) : Nat → Int64
  | 0 => 0
  | n + 1 => 27 * b27 f n + (f n).toInt64 - 97 + 1
def NmO (a : Nat) (D : Nat → Option HE) (na : Nat) (v : Int64) : Prop := ¬ inB a na ∧ ∃ (va n : Nat) (g : Nat → Int32) (hs hz : Int32), ¬ inB a va ∧ D na = some (.inr (20, [.ref va, .int 0, .int hs, .int hz])) ∧ D va = some (iA 3 n g) ∧ 1 ≤ n ∧ n ≤ 6 ∧ (∀ i, i < n → ∃ c, 97 ≤ c ∧ c ≤ 122 ∧ g i = nI c) ∧ v = b27 g n
def KdO (a : Nat) (D : Nat → Option HE) (σ : MS) (k ka : Nat) : Prop := ∃ na, D ka = some (.inr (6, [.ref na])) ∧ NmO a D na (σ.2.2.2 41 (24 + k))
def FmO (a : Nat) (D : Nat → Option HE) (σ : MS) (f fa : Nat) : Prop := ∃ na ia g, ¬ inB a ia ∧ D fa = some (.inr (7, [.ref na, .int (σ.2.2.1 42 (8 + f)), .ref ia])) ∧ D ia = some (iA 0 6 g) ∧ (∀ k, k < 6 → g k = σ.2.2.1 43 (48 + 6 * f + k)) ∧ NmO a D na (σ.2.2.2 41 (32 + f))
def PnO (a : Nat) (D : Nat → Option HE) (σ : MS) (p pa : Nat) : Prop := ∃ na ia g, ¬ inB a ia ∧ D pa = some (.inr (8, [.ref na, .int (σ.2.2.1 44 (10 + 2 * p)), .int (σ.2.2.1 44 (11 + 2 * p)), .ref ia])) ∧ D ia = some (iA 0 6 g) ∧ (∀ k, k < 6 → g k = σ.2.2.1 45 (30 + 6 * p + k)) ∧ NmO a D na (σ.2.2.2 41 (40 + p))
/-- the lists and settings of the house at ha -/
def HO (a ha : Nat) (D : Nat → Option HE) (σ : MS) (nk nf np : Nat) (vl vf vm : Option Nat) : Prop := ¬ inB a ha ∧ ∃ (st pr : Int32) (lk lf lp : Nat) (ek ef ep : Nat → Nat), D ha = some (.inr (1, [.int st, .int pr, .int (σ.2.2.1 47 4), .int (σ.2.2.1 47 5), .int (σ.2.2.1 47 6), .int (σ.2.2.1 47 7), .ref lk, .ref lf, .ref lp, va_rf vl, va_rf vf, va_rf vm])) ∧
  LsO a D lk nk ek ∧ LsO a D lf nf ef ∧ LsO a D lp np ep ∧ (∀ k, k < nk → KdO a D σ k (ek k)) ∧ (∀ f, f < nf → FmO a D σ f (ef f)) ∧ (∀ p, p < np → PnO a D σ p (ep p))
/-- the twin's upper halves are the same -/
def UpS (σ σ' : MS) : Prop := (∀ k, k < 3 → σ'.2.2.1 40 (3 + k) = σ.2.2.1 40 (3 + k)) ∧ (∀ k, k < 24 → σ'.2.2.2 41 (24 + k) = σ.2.2.2 41 (24 + k)) ∧ (∀ k, k < 8 → σ'.2.2.1 42 (8 + k) = σ.2.2.1 42 (8 + k)) ∧ (∀ k, k < 48 → σ'.2.2.1 43 (48 + k) = σ.2.2.1 43 (48 + k)) ∧ (∀ k, k < 10 → σ'.2.2.1 44 (10 + k) = σ.2.2.1 44 (10 + k)) ∧ (∀ k, k < 30 → σ'.2.2.1 45 (30 + k) = σ.2.2.1 45 (30 + k)) ∧ (∀ k, k < 4 → σ'.2.2.1 47 (4 + k) = σ.2.2.1 47 (4 + k)) ∧ (∀ k, k < 3 → σ'.2.2.1 48 (3 + k) = σ.2.2.1 48 (3 + k)) ∧ (∀ k, k < 3 → σ'.2.2.1 49 (3 + k) = σ.2.2.1 49 (3 + k)) ∧ (∀ k, k < 1600 → σ'.2.2.1 50 (1600 + k) = σ.2.2.1 50 (1600 + k))
/-- the twin's house arrays are the same -/
def UpE (σ σ' : MS) : Prop := (∀ k, k = 40 ∨ k = 42 ∨ k = 43 ∨ k = 44 ∨ k = 45 ∨ k = 47 ∨ k = 48 ∨ k = 49 ∨ k = 50 → σ'.2.2.1 k = σ.2.2.1 k) ∧ σ'.2.2.2 41 = σ.2.2.2 41
theorem UpE.refl (σ : MS) : UpE σ σ := ⟨fun _ _ => rfl, rfl⟩
theorem UpE.tr {σ σ1 σ2 : MS} (h : UpE σ σ1) (g : UpE σ1 σ2) : UpE σ σ2 := ⟨fun k hk => (g.1 k hk).trans (h.1 k hk), g.2.trans h.2⟩
theorem UpE.up {σ σ' : MS} (h : UpE σ σ') : UpS σ σ' := by
  obtain ⟨h1, h2⟩ := h
  exact ⟨fun k _ => by rw [h1 40 (by simp)], fun k _ => by rw [h2], fun k _ => by rw [h1 42 (by simp)], fun k _ => by rw [h1 43 (by simp)], fun k _ => by rw [h1 44 (by simp)], fun k _ => by rw [h1 45 (by simp)], fun k _ => by rw [h1 47 (by simp)], fun k _ => by rw [h1 48 (by simp)], fun k _ => by rw [h1 49 (by simp)], fun k _ => by rw [h1 50 (by simp)]⟩
def bnd (x : Int32) (m : Nat) : Prop := ∃ k, k ≤ m ∧ x = nI k
/-- how great the house's numbers are -/
def HV (σ : MS) (nk nf np : Nat) (pt : Nat → Nat) : Prop := (nk ≤ 6 ∧ nf ≤ 8 ∧ np ≤ 5) ∧ (σ.2.2.1 40 3 = nI nk ∧ σ.2.2.1 40 4 = nI nf ∧ σ.2.2.1 40 5 = nI np) ∧ (∀ f, pt f ≤ 9) ∧ (∀ f, f < nf → 1 ≤ pt f ∧ σ.2.2.1 42 (8 + f) = nI (pt f)) ∧ (∀ f k, f < nf → k < 6 → bnd (σ.2.2.1 43 (48 + 6 * f + k)) 9) ∧ (∀ p k, p < np → k < 6 → bnd (σ.2.2.1 45 (30 + 6 * p + k)) 9) ∧ (∀ p, p < np → bnd (σ.2.2.1 44 (10 + 2 * p)) 23 ∧ bnd (σ.2.2.1 44 (11 + 2 * p)) 23) ∧ bnd (σ.2.2.1 47 4) 5 ∧ bnd (σ.2.2.1 47 5) 999 ∧ bnd (σ.2.2.1 47 6) 99 ∧ bnd (σ.2.2.1 47 7) 100
def HX (a : Nat) (M : CM) (σ : MS) (nk nf np : Nat) (pt : Nat → Nat) (vl vf vm : Option Nat) : Prop := ∃ ha, M.2.2.1 0 0 = some ha ∧ HO a ha M.2.2.2.1 σ nk nf np vl vf vm ∧ HV σ nk nf np pt
section PHO
variable {K : KE} {a ha la n k f p : Nat} {M M' : CM} {D : Nat → Option HE} {σ σ' : MS} {el : Nat → Nat} {nk nf np : Nat} {pt : Nat → Nat} {vl vf vm : Option Nat}
theorem HV.up (u : UpS σ σ') (V : HV σ nk nf np pt) : HV σ' nk nf np pt := by
  obtain ⟨b, ⟨h1, h2, h3⟩, hq, h4, h5, h6, h7, h8, h9, h10, h11⟩ := V
  obtain ⟨u1, u2, u3, u4, u5, u6, u7, u8, u9, u10⟩ := u
  refine ⟨b, ⟨(u1 0 (by omega)).trans h1, (u1 1 (by omega)).trans h2, (u1 2 (by omega)).trans h3⟩, hq, fun f hf => ⟨(h4 f hf).1, (u3 f (by omega)).trans (h4 f hf).2⟩, fun f k hf hk => ?_, fun p k hp hk => ?_, fun p hp => ⟨?_, ?_⟩, ?_, ?_, ?_, ?_⟩
  · rw [show 48 + 6 * f + k = 48 + (6 * f + k) by omega, u4 _ (by omega), ← Nat.add_assoc]; exact h5 f k hf hk
  · rw [show 30 + 6 * p + k = 30 + (6 * p + k) by omega, u6 _ (by omega), ← Nat.add_assoc]; exact h6 p k hp hk
  · rw [u5 _ (by omega)]; exact (h7 p hp).1
  · rw [show 11 + 2 * p = 10 + (1 + 2 * p) by omega, u5 _ (by omega), show 10 + (1 + 2 * p) = 11 + 2 * p by omega]; exact (h7 p hp).2
  · rw [show σ'.2.2.1 47 4 = σ.2.2.1 47 4 from u7 0 (by omega)]; exact h8
  · rw [show σ'.2.2.1 47 5 = σ.2.2.1 47 5 from u7 1 (by omega)]; exact h9
  · rw [show σ'.2.2.1 47 6 = σ.2.2.1 47 6 from u7 2 (by omega)]; exact h10
  · rw [show σ'.2.2.1 47 7 = σ.2.2.1 47 7 from u7 3 (by omega)]; exact h11
theorem HO.up (u : UpS σ σ') (b : nk ≤ 6 ∧ nf ≤ 8 ∧ np ≤ 5) (O : HO a ha D σ nk nf np vl vf vm) : HO a ha D σ' nk nf np vl vf vm := by
  obtain ⟨i, st, pr, lk, lf, lp, ek, ef, ep, h1, h2, h3, h4, h5, h6, h7⟩ := O
  obtain ⟨u1, u2, u3, u4, u5, u6, u7, u8, u9, u10⟩ := u
  refine ⟨i, st, pr, lk, lf, lp, ek, ef, ep, ?_, h2, h3, h4, fun k hk => ?_, fun f hf => ?_, fun p hp => ?_⟩
  · rw [h1, show σ'.2.2.1 47 4 = σ.2.2.1 47 4 from u7 0 (by omega), show σ'.2.2.1 47 5 = σ.2.2.1 47 5 from u7 1 (by omega), show σ'.2.2.1 47 6 = σ.2.2.1 47 6 from u7 2 (by omega), show σ'.2.2.1 47 7 = σ.2.2.1 47 7 from u7 3 (by omega)]
  · obtain ⟨na, q1, q2⟩ := h5 k hk
    exact ⟨na, q1, by rw [u2 k (by omega)]; exact q2⟩
  · obtain ⟨na, ia, g, q1, q2, q3, q4, q5⟩ := h6 f hf
    refine ⟨na, ia, g, q1, by rw [u3 f (by omega)]; exact q2, q3, fun k hk => ?_, ?_⟩
    · rw [show 48 + 6 * f + k = 48 + (6 * f + k) by omega, u4 _ (by omega), ← Nat.add_assoc]; exact q4 k hk
    · rw [show 32 + f = 24 + (8 + f) by omega, u2 _ (by omega), show 24 + (8 + f) = 32 + f by omega]; exact q5
  · obtain ⟨na, ia, g, q1, q2, q3, q4, q5⟩ := h7 p hp
    refine ⟨na, ia, g, q1, ?_, q3, fun k hk => ?_, ?_⟩
    · rw [u5 _ (by omega), show σ'.2.2.1 44 (11 + 2 * p) = σ.2.2.1 44 (11 + 2 * p) by rw [show 11 + 2 * p = 10 + (1 + 2 * p) by omega, u5 _ (by omega)]]; exact q2
    · rw [show 30 + 6 * p + k = 30 + (6 * p + k) by omega, u6 _ (by omega), ← Nat.add_assoc]; exact q4 k hk
    · rw [show 40 + p = 24 + (16 + p) by omega, u2 _ (by omega), show 24 + (16 + p) = 40 + p by omega]; exact q5
theorem HX.to (X : HX a M σ nk nf np pt vl vf vm) (e : SameH M M') (u : UpS σ σ') : HX a M' σ' nk nf np pt vl vf vm := by
  obtain ⟨ha, h1, h2, h3⟩ := X
  exact ⟨ha, by rw [e.1, h1], by rw [e.2]; exact h2.up u h3.1, h3.up u⟩
theorem HX.bk (X : HX a M σ nk nf np pt vl vf vm) : nk ≤ 6 ∧ nf ≤ 8 ∧ np ≤ 5 := by
  obtain ⟨ha, h1, h2, h3⟩ := X
  exact h3.1
theorem HX.v (X : HX a M σ nk nf np pt vl vf vm) : HV σ nk nf np pt := by
  obtain ⟨ha, h1, h2, h3⟩ := X
  exact h3
theorem LsO.size (L : LsO a M.2.2.2.1 la n el) : rcv K (hp a M) (some la) 19 = some la ∧ fJ2_size K (hp a M) la = some (nI n) := by
  obtain ⟨h0, ea, cap, mc, f, h1, h2, h3, h4, h5, h6⟩ := L
  refine ⟨d_rcv h0 h2, ?_⟩
  simp only [fJ2_size, d_gI (K := K) (k := 2) h0 h2 rfl, bsm]
theorem LsO.get (L : LsO a M.2.2.2.1 la n el) (hk : k < n) : fJ2_get K (hp a M) la (nI k) = some (some (el k)) := by
  obtain ⟨h0, ea, cap, mc, f, h1, h2, h3, h4, h5, h6⟩ := L
  have e1 : ∀ h, fJ11_checkIndex K h (nI k) (nI n) = some (nI k) := fun h => by
    simp only [fJ11_checkIndex, fJ8_checkIndex, nI_lt0 (show k < 2 ^ 31 by omega), nI_ltE (show k < 2 ^ 31 by omega) (show n < 2 ^ 31 by omega), if_false, hk, if_true, bsm]
  simp only [fJ2_get, d_gI (K := K) (k := 2) h0 h2 rfl, bsm, e1, d_rcv (K := K) h0 h2, fJ2_elementData, d_gR (K := K) (k := 1) (x := some ea) h0 h2 rfl, d_cR (K := K) h1 h3 (show k < cap by omega) (by omega), (h6 k hk).1]
theorem HX.kinds (X : HX a M σ nk nf np pt vl vf vm) (e : SameH M M') : fX0_kinds K (hp a M') a = some (nI nk) := by
  obtain ⟨ha, h1, ⟨i, st, pr, lk, lf, lp, ek, ef, ep, g1, g2, g3, g4, -⟩, -⟩ := X
  rw [← e.2] at g1 g2 g3 g4
  simp only [fX0_kinds, x_g0, e.1, h1, bsm, d_gR (K := K) (k := 6) (x := some lk) i g1 rfl, (g2.size (K := K)).1, (g2.size (K := K)).2]
theorem HX.films (X : HX a M σ nk nf np pt vl vf vm) (e : SameH M M') : fX0_films K (hp a M') a = some (nI nf) := by
  obtain ⟨ha, h1, ⟨i, st, pr, lk, lf, lp, ek, ef, ep, g1, g2, g3, g4, -⟩, -⟩ := X
  rw [← e.2] at g1 g2 g3 g4
  simp only [fX0_films, x_g0, e.1, h1, bsm, d_gR (K := K) (k := 7) (x := some lf) i g1 rfl, (g3.size (K := K)).1, (g3.size (K := K)).2]
theorem HX.people (X : HX a M σ nk nf np pt vl vf vm) (e : SameH M M') : fX0_people K (hp a M') a = some (nI np) := by
  obtain ⟨ha, h1, ⟨i, st, pr, lk, lf, lp, ek, ef, ep, g1, g2, g3, g4, -⟩, -⟩ := X
  rw [← e.2] at g1 g2 g3 g4
  simp only [fX0_people, x_g0, e.1, h1, bsm, d_gR (K := K) (k := 8) (x := some lp) i g1 rfl, (g4.size (K := K)).1, (g4.size (K := K)).2]
theorem HX.film (K : KE) (X : HX a M σ nk nf np pt vl vf vm) (hf : f < nf) : ∃ fa ia, (∀ M', SameH M M' → fX0_filmOf K (hp a M') a (nI f) = some (some fa)) ∧ (∀ M', SameH M M' → gI K (hp a M') (some fa) 7 1 = some (σ.2.2.1 42 (8 + f))) ∧ (∀ M', SameH M M' → gR K (hp a M') (some fa) 7 2 = some (some ia)) ∧ (∀ M' k, SameH M M' → k < 6 → cI K (hp a M') (some ia) 0 (nI k) = some (σ.2.2.1 43 (48 + 6 * f + k))) := by
  obtain ⟨ha, h1, ⟨i, st, pr, lk, lf, lp, ek, ef, ep, g1, g2, g3, g4, g5, g6, g7⟩, -⟩ := X
  obtain ⟨na, ia, g, q1, q2, q3, q4, q5⟩ := g6 f hf
  obtain ⟨n0, ea, cap, mc, ff, n1, n2, n3, n4, n5, n6⟩ := id g3
  have hfa := (n6 f hf).2
  refine ⟨ef f, ia, fun M' e => ?_, fun M' e => ?_, fun M' e => ?_, fun M' k e hk => ?_⟩
  · rw [← e.2] at g1 g3 q2
    simp only [fX0_filmOf, x_g0, e.1, h1, bsm, d_gR (K := K) (k := 7) (x := some lf) i g1 rfl, (g3.size (K := K)).1, g3.get (K := K) hf, d_ckL (K := K) (cis := [7]) hfa q2 (by simp)]
  · rw [← e.2] at q2
    exact d_gI hfa q2 rfl
  · rw [← e.2] at q2
    exact d_gR (x := some ia) hfa q2 rfl
  · rw [← e.2] at q3
    rw [d_cI q1 q3 hk (by omega), q4 k hk]
theorem HX.person (K : KE) (X : HX a M σ nk nf np pt vl vf vm) (hp' : p < np) : ∃ pa ia, (∀ M', SameH M M' → fX0_personOf K (hp a M') a (nI p) = some (some pa)) ∧ (∀ M', SameH M M' → gI K (hp a M') (some pa) 8 1 = some (σ.2.2.1 44 (10 + 2 * p))) ∧ (∀ M', SameH M M' → gI K (hp a M') (some pa) 8 2 = some (σ.2.2.1 44 (11 + 2 * p))) ∧ (∀ M', SameH M M' → gR K (hp a M') (some pa) 8 3 = some (some ia)) ∧ (∀ M' k, SameH M M' → k < 6 → cI K (hp a M') (some ia) 0 (nI k) = some (σ.2.2.1 45 (30 + 6 * p + k))) := by
  obtain ⟨ha, h1, ⟨i, st, pr, lk, lf, lp, ek, ef, ep, g1, g2, g3, g4, g5, g6, g7⟩, -⟩ := X
  obtain ⟨na, ia, g, q1, q2, q3, q4, q5⟩ := g7 p hp'
  obtain ⟨n0, ea, cap, mc, ff, n1, n2, n3, n4, n5, n6⟩ := id g4
  have hpa := (n6 p hp').2
  refine ⟨ep p, ia, fun M' e => ?_, fun M' e => ?_, fun M' e => ?_, fun M' e => ?_, fun M' k e hk => ?_⟩
  · rw [← e.2] at g1 g4 q2
    simp only [fX0_personOf, x_g0, e.1, h1, bsm, d_gR (K := K) (k := 8) (x := some lp) i g1 rfl, (g4.size (K := K)).1, g4.get (K := K) hp', d_ckL (K := K) (cis := [8]) hpa q2 (by simp)]
  · rw [← e.2] at q2
    exact d_gI hpa q2 rfl
  · rw [← e.2] at q2
    exact d_gI hpa q2 rfl
  · rw [← e.2] at q2
    exact d_gR (x := some ia) hpa q2 rfl
  · rw [← e.2] at q3
    rw [d_cI q1 q3 hk (by omega), q4 k hk]
/-- the house's own fields -/
theorem HX.set (K : KE) (X : HX a M σ nk nf np pt vl vf vm) : ∃ ha, (∀ M', SameH M M' → M'.2.2.1 0 0 = some ha) ∧ (∀ M', SameH M M' → gI K (hp a M') (some ha) 1 2 = some (σ.2.2.1 47 4)) ∧ (∀ M', SameH M M' → gI K (hp a M') (some ha) 1 3 = some (σ.2.2.1 47 5)) ∧ (∀ M', SameH M M' → gI K (hp a M') (some ha) 1 4 = some (σ.2.2.1 47 6)) ∧ (∀ M', SameH M M' → gI K (hp a M') (some ha) 1 5 = some (σ.2.2.1 47 7)) ∧ (∀ M', SameH M M' → gR K (hp a M') (some ha) 1 9 = some vl) ∧ (∀ M', SameH M M' → gR K (hp a M') (some ha) 1 10 = some vf) ∧ (∀ M', SameH M M' → gR K (hp a M') (some ha) 1 11 = some vm) := by
  obtain ⟨ha, h1, ⟨i, st, pr, lk, lf, lp, ek, ef, ep, g1, -⟩, -⟩ := X
  refine ⟨ha, fun M' e => by rw [e.1, h1], fun M' e => ?_, fun M' e => ?_, fun M' e => ?_, fun M' e => ?_, fun M' e => ?_, fun M' e => ?_, fun M' e => ?_⟩ <;> rw [← e.2] at g1
  · exact d_gI i g1 rfl
  · exact d_gI i g1 rfl
  · exact d_gI i g1 rfl
  · exact d_gI i g1 rfl
  · exact d_gR i g1 rfl
  · exact d_gR i g1 rfl
  · exact d_gR i g1 rfl
end PHO

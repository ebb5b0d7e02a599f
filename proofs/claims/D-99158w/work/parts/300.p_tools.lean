/-! PLAIN LAW, tools: numbers, loops, memory -/
set_option maxRecDepth 100000
-- numbers: constants against nI
theorem k_le {c : Int32} {n k : Nat} (hc : c.toInt = (n : Int)) (hk : k < 2 ^ 31) : (c ≤ nI k) = (n ≤ k) := by
  rw [Int32.le_iff_toInt_le, hc, nI_toInt hk]
  exact propext ⟨fun h => by omega, fun h => by omega⟩
theorem k_lt {c : Int32} {n k : Nat} (hc : c.toInt = (n : Int)) (hk : k < 2 ^ 31) : (c < nI k) = (n < k) := by
  rw [Int32.lt_iff_toInt_lt, hc, nI_toInt hk]
  exact propext ⟨fun h => by omega, fun h => by omega⟩
theorem le_k {c : Int32} {n k : Nat} (hc : c.toInt = (n : Int)) (hk : k < 2 ^ 31) : (nI k ≤ c) = (k ≤ n) := by
  rw [Int32.le_iff_toInt_le, hc, nI_toInt hk]
  exact propext ⟨fun h => by omega, fun h => by omega⟩
theorem lt_k {c : Int32} {n k : Nat} (hc : c.toInt = (n : Int)) (hk : k < 2 ^ 31) : (nI k < c) = (k < n) := by
  rw [Int32.lt_iff_toInt_lt, hc, nI_toInt hk]
  exact propext ⟨fun h => by omega, fun h => by omega⟩
theorem nI_leE {a b : Nat} (ha : a < 2 ^ 31) (hb : b < 2 ^ 31) : (nI a ≤ nI b) = (a ≤ b) := propext (nI_leI ha hb)
theorem nI_ltE {a b : Nat} (ha : a < 2 ^ 31) (hb : b < 2 ^ 31) : (nI a < nI b) = (a < b) := propext (nI_ltI ha hb)
theorem nI_eqE {a b : Nat} (ha : a < 2 ^ 31) (hb : b < 2 ^ 31) : (nI a = nI b) = (a = b) := propext (nI_eq ha hb)
theorem nI_lt0 {a : Nat} (ha : a < 2 ^ 31) : (nI a < 0) = False := by
  rw [lt_k (n := 0) rfl ha]
  simp
theorem inx_k {k n : Nat} (hk : k < 2 ^ 31) : inx (nI k) n = decide (k < n) := by
  unfold inx
  rw [nI_clamp hk]
  simp only [nI_lt0 hk]
  by_cases h : n ≤ k
  · simp [h, Nat.not_lt.mpr h]
  · simp [h, Nat.lt_of_not_le h]
-- loops: a loop by its fuel; I what holds at its head, P what is asked of its answer
theorem lpR {α β : Type} {F : Nat → α → Int32 → Option β} {N : Nat} {I : Nat → α → Prop} {P : Option β → Prop}
    (st : ∀ n x k, k < N → I k x → (∃ x', I (k + 1) x' ∧ F (n + 1) x (nI k) = F n x' (nI (k + 1))) ∨ P (F (n + 1) x (nI k)))
    (en : ∀ n x, I N x → P (F (n + 1) x (nI N))) : ∀ (d k : Nat), k + d = N → ∀ (fuel : Nat) (x : α), d < fuel → I k x → P (F fuel x (nI k)) := by
  intro d
  induction d with
  | zero =>
    intro k hk fuel x hf hI
    obtain ⟨n, rfl⟩ : ∃ n, fuel = n + 1 := ⟨fuel - 1, by omega⟩
    have : k = N := by omega
    subst this
    exact en n x hI
  | succ d ih =>
    intro k hk fuel x hf hI
    obtain ⟨n, rfl⟩ : ∃ n, fuel = n + 1 := ⟨fuel - 1, by omega⟩
    rcases st n x k (by omega) hI with ⟨x', hI', e⟩ | hP
    · rw [e]
      exact ih (k + 1) (by omega) n x' (by omega) hI'
    · exact hP
def lp {α : Type} (g : Nat → α → α) (x : α) : Nat → α
  | 0 => x
  | n + 1 => g n (lp g x n)
/-- a loop that folds: its answer is r of the fold -/
theorem lpF {α β : Type} {F : Nat → α → Int32 → Option β} {N : Nat} {g : Nat → α → α} {r : α → Option β} {x : α}
    (st : ∀ n k, k < N → F (n + 1) (lp g x k) (nI k) = F n (lp g x (k + 1)) (nI (k + 1))) (en : ∀ n, F (n + 1) (lp g x N) (nI N) = r (lp g x N)) {fuel : Nat} (hf : N < fuel) : F fuel x (nI 0) = r (lp g x N) := by
  refine lpR (F := F) (N := N) (I := fun k y => y = lp g x k) (P := fun o => o = r (lp g x N)) (fun n y k hk hI => Or.inl ⟨lp g x (k + 1), rfl, ?_⟩) (fun n y hI => ?_) N 0 (by omega) fuel x hf rfl
  · subst hI
    exact st n k hk
  · subst hI
    exact en n
theorem FU_lt {n : Nat} (h : n < 100000) : n < FU := h
/-- not by definition, so that nothing is unfolded to see it -/
theorem bsm {α β : Type} {a : α} {f : α → Option β} : (some a).bind f = f a := (Option.bind_some a f).trans (Eq.refl _)

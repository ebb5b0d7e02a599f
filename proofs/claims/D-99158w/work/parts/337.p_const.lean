/-! PARSER, the program's own words -/
set_option maxRecDepth 100000
abbrev WQ (B : Nat → Nat) (q e : Nat) (w : List Nat) : Prop := e - q = w.length ∧ ∀ i, i < w.length → B (q + i) = w.getD i 0
/-- a text of the program, at y -/
def CS (K : KE) (a y : Nat) (w : List Nat) : Prop := y < a ∧ (∃ va hs hz, va < a ∧ K.1 y = some (.inr (20, [.ref va, .int 0, .int hs, .int hz])) ∧ K.1 va = some (iA 3 w.length (fun i => nI (w.getD i 0)))) ∧ w.length ≤ 100 ∧ ∀ i, i < w.length → w.getD i 0 < 256
def CT (K : KE) (a t : Nat) (w : List Nat) : Prop := ∃ y, K.2.1 t = some y ∧ CS K a y w
/-- a row of texts -/
def CA (K : KE) (a t : Nat) (l : List (List Nat)) : Prop := ∃ y f, K.2.1 t = some y ∧ y < a ∧ K.1 y = some (rA 6 l.length f) ∧ l.length ≤ 100 ∧ ∀ j, j < l.length → ∃ s, f j = some s ∧ CS K a s (l.getD j [])
section PKC
variable {K : KE} {h : HS} {a i n k p q e L y ci t : Nat} {M M' : CM} {σ σ' : MS} {B : Nat → Nat} {w : List Nat}
theorem inB_lt (h : y < a) : ¬ inB a y := fun z => by have := z.1; omega
theorem rd_c (hN : ∀ y, y < a → M.2.2.2.1 y = none) (hy : y < a) : rd K (hp a M) y = K.1 y := d_rk (inB_lt hy) (hN y hy)
theorem CS.sg (C : CS K a y w) (hN : ∀ y, y < a → M.2.2.2.1 y = none) : SG K (hp a M) y w.length (fun i => nI (w.getD i 0)) := by
  obtain ⟨h1, ⟨va, hs, hz, h2, h3, h4⟩, h5, -⟩ := C
  exact ⟨va, _, hs, hz, by rw [rd_c hN h1]; exact h3, by rw [rd_c hN h2]; exact h4, by omega, fun _ _ => rfl⟩
theorem StO.sg (S : StO a M.2.2.2.1 B q e y) (he : e - q ≤ 1600) : SG K (hp a M) y (e - q) (fun i => nI (B (q + i))) := by
  obtain ⟨h1, va, f, hs, hz, h2, h3, h4, h5, -⟩ := S
  exact ⟨va, f, hs, hz, d_rd h1 h3, d_rd h2 h4, he, h5⟩
theorem WQ_f (C : CS K a y w) (hB : ∀ k, k < 1600 → B k < 256) (he : e ≤ 1600) : (e - q = w.length ∧ ∀ i, i < e - q → nI (B (q + i)) = nI (w.getD i 0)) ↔ WQ B q e w := by
  obtain ⟨-, -, -, hw⟩ := C
  constructor
  · rintro ⟨h1, h2⟩
    refine ⟨h1, fun i hi => ?_⟩
    have := hw i hi
    have := hB (q + i) (by omega)
    exact (nI_eq (by omega) (by omega)).mp (h2 i (by omega))
  · rintro ⟨h1, h2⟩
    exact ⟨h1, fun i hi => congrArg nI (h2 i (by omega))⟩
/-- is the word this text? -/
theorem eqW (S : StO a M.2.2.2.1 B q e y) (C : CT K a t w) (hN : ∀ y, y < a → M.2.2.2.1 y = none) (hB : ∀ k, k < 1600 → B k < 256) (he : e ≤ 1600) : fJ6_equals K (hp a M) y (K.2.1 t) = some (if WQ B q e w then 1 else 0) := by
  obtain ⟨s, c1, c2⟩ := C
  obtain ⟨r, r1, r2⟩ := (S.sg (K := K) (by omega)).eq (c2.sg hN)
  rw [c1, r1]
  rcases r2 with ⟨rfl, r2⟩ | ⟨rfl, r2⟩
  · rw [if_pos ((WQ_f c2 hB he).mp r2)]
  · rw [if_neg (fun z => r2 ((WQ_f c2 hB he).mpr z))]
/-- the first of a row that the word is -/
def fdF (B : Nat → Nat) (q e : Nat) (l : List (List Nat)) : Nat → Nat → Option Nat
  | 0, _ => none
  | d + 1, j => if WQ B q e (l.getD j []) then some j else fdF B q e l d (j + 1)
def fd (B : Nat → Nat) (q e : Nat) (l : List (List Nat)) : Option Nat := fdF B q e l l.length 0
def oI (o : Option Nat) : Int32 := match o with
  | some j => nI j
  | none => -1
theorem find_o {l : List (List Nat)} (S : StO a M.2.2.2.1 B q e y) (C : CA K a t l) (hN : ∀ y, y < a → M.2.2.2.1 y = none) (hB : ∀ k, k < 1600 → B k < 256) (he : e ≤ 1600) : fX0_find K (hp a M) (some y) (K.2.1 t) = some (oI (fd B q e l)) := by
  obtain ⟨s, f, c1, c2, c3, c4, c5⟩ := C
  have q1 : rd K (hp a M) s = some (rA 6 l.length f) := by rw [rd_c hN c2]; exact c3
  have key : ∀ (d j fu : Nat), j + d = l.length → d < fu → fX0_find_2 K (hp a M) fu (some y) (some s) (nI j) = some (oI (fdF B q e l d j)) := by
    intro d
    induction d with
    | zero =>
      intro j fu hj hf
      obtain ⟨m, rfl⟩ : ∃ n, fu = n + 1 := ⟨fu - 1, by omega⟩
      obtain rfl : j = l.length := by omega
      simp only [fX0_find_2, k_cNr q1, bsm, if_pos (nI_le (Nat.le_refl l.length) (show l.length < 2 ^ 31 by omega)), fdF, oI]
    | succ d ih =>
      intro j fu hj hf
      obtain ⟨m, rfl⟩ : ∃ n, fu = n + 1 := ⟨fu - 1, by omega⟩
      have kk := nI_ge (show j < l.length by omega) (show l.length < 2 ^ 31 by omega)
      obtain ⟨sj, s1, s2⟩ := c5 j (by omega)
      obtain ⟨r, r1, r2⟩ := (s2.sg (M := M) hN).eq (S.sg (K := K) (by omega))
      have rc : rcv K (hp a M) (some sj) 20 = some sj := by
        obtain ⟨h1, ⟨va, hs, hz, h2, h3, h4⟩, h5, -⟩ := s2
        exact k_rcv (by rw [rd_c hN h1]; exact h3)
      simp only [fX0_find_2, k_cNr q1, bsm, if_neg kk, k_cR q1 (show j < l.length by omega) (by omega), s1, rc, r1, nI_1, fdF]
      rcases r2 with ⟨rfl, r2⟩ | ⟨rfl, r2⟩
      · have z : WQ B q e (l.getD j []) := (WQ_f s2 hB he).mp ⟨r2.1.symm, fun i hi => (r2.2 i (by omega)).symm⟩
        rw [if_neg n01, if_pos z, oI]
      · have z : ¬ WQ B q e (l.getD j []) := fun z => r2 ⟨((WQ_f s2 hB he).mpr z).1.symm, fun i hi => (((WQ_f s2 hB he).mpr z).2 i (by have := z.1; omega)).symm⟩
        rw [if_pos rfl, if_neg z]
        exact ih (j + 1) m (by omega) (by omega)
  unfold fX0_find
  rw [c1]
  exact key l.length 0 FU (by omega) (FU_lt (by omega))
end PKC

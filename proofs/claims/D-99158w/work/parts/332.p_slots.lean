/-! PLAIN LAW, fewer slots: no matter -/
set_option maxRecDepth 100000
theorem IV.less {K : KE} {a : Nat} : ∀ (h : HS) (σ : MS) (n k : Nat), IV K a h σ n → k ≤ h.2.2 → IV K a (h.1, h.2.1, k) σ n := by
  intro h σ n k I hk
  obtain ⟨M, nk, nf, np, pt, vl, vf, vm, rfl, X, H, N, E⟩ := I
  obtain ⟨h1, ⟨tp, z1, z2, z3, z4, z5, z6, z7⟩, h3⟩ := E
  have hk' : k ≤ M.2.2.2.2.2 := hk
  refine ⟨(M.1, M.2.1, M.2.2.1, M.2.2.2.1, M.2.2.2.2.1, k), nk, nf, np, pt, vl, vf, vm, rfl, X, H, N, h1, ⟨tp, z1, z2, z3, z4, z5, ?_, z7⟩, h3⟩
  show k + _ + _ ≤ _
  omega
theorem IV.start {K : KE} {a : Nat} : ∀ (h : HS) (σ : MS) (n : Nat), IV K a h σ n → IV K a h σ (n + 1) := fun _ _ _ I => I.next

def vAt (K : KE) (h : HS) : Nat → Option Nat → Option Nat → Option Int64
  | 0, _, _ => none
  | d + 1, r, mm => (clsOf K h r).bind fun q =>
    if q.2 = 9 then fX11_at K h (vAt K h d) q.1 mm else
    if q.2 = 10 then fX12_at K h (vAt K h d) q.1 mm else
    if q.2 = 11 then fX13_at K h (vAt K h d) q.1 mm else
    if q.2 = 12 then fX14_at K h (vAt K h d) q.1 mm else
    if q.2 = 13 then fX15_at K h (vAt K h d) q.1 mm else
    none
theorem vAt_ok {l : Launch} {A : Nat → Prop} {D : va_G} {ac : Nat → ClassId} {K : KE} {h : HS} : ∀ d, VOK l A D ac K h (frA d) (loA d) (vAt K h d) := by
  intro d
  induction d with
  | zero => intro r mm x z; cases z
  | succ d ih =>
    intro r mm x z
    rw [vAt] at z
    replace z := ob z
    obtain ⟨q, zq, z⟩ := z
    obtain ⟨y1, y2⟩ := clsOf_e zq
    by_cases c0 : q.2 = 9
    · replace z := it c0 z
      rw [c0] at y2
      exact ⟨q.1, 9, y1, y2, Or.inl ⟨rfl, metX11_at (frA_ge d) ih z⟩⟩
    replace z := ie c0 z
    by_cases c1 : q.2 = 10
    · replace z := it c1 z
      rw [c1] at y2
      exact ⟨q.1, 10, y1, y2, Or.inr (Or.inl ⟨rfl, metX12_at (frA_ge d) ih z⟩)⟩
    replace z := ie c1 z
    by_cases c2 : q.2 = 11
    · replace z := it c2 z
      rw [c2] at y2
      exact ⟨q.1, 11, y1, y2, Or.inr (Or.inr (Or.inl ⟨rfl, metX13_at (frA_ge d) ih z⟩))⟩
    replace z := ie c2 z
    by_cases c3 : q.2 = 12
    · replace z := it c3 z
      rw [c3] at y2
      exact ⟨q.1, 12, y1, y2, Or.inr (Or.inr (Or.inr (Or.inl ⟨rfl, metX14_at (frA_ge d) ih z⟩)))⟩
    replace z := ie c3 z
    by_cases c4 : q.2 = 13
    · replace z := it c4 z
      rw [c4] at y2
      exact ⟨q.1, 13, y1, y2, Or.inr (Or.inr (Or.inr (Or.inr (⟨rfl, metX15_at (frA_ge d) ih z⟩))))⟩
    replace z := ie c4 z
    cases z

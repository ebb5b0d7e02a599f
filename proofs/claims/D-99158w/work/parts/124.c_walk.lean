def vHo (K : KE) (h : HS) : Nat → Option Nat → Option Nat → Option Int32
  | 0, _, _ => none
  | d + 1, r, mm => (clsOf K h r).bind fun q =>
    if q.2 = 14 then fX17_holds K h (vHo K h d) q.1 mm else
    if q.2 = 15 then fX18_holds K h (vHo K h d) q.1 mm else
    if q.2 = 16 then fX19_holds K h (vHo K h d) q.1 mm else
    if q.2 = 17 then fX20_holds K h (vHo K h d) q.1 mm else
    none
theorem vHo_ok {l : Launch} {A : Nat → Prop} {D : va_G} {ac : Nat → ClassId} {K : KE} {h : HS} : ∀ d, HOK l A D ac K h (frH d) (loH d) (vHo K h d) := by
  intro d
  induction d with
  | zero => intro r mm x z; cases z
  | succ d ih =>
    intro r mm x z
    rw [vHo] at z
    replace z := ob z
    obtain ⟨q, zq, z⟩ := z
    obtain ⟨y1, y2⟩ := clsOf_e zq
    by_cases c0 : q.2 = 14
    · replace z := it c0 z
      rw [c0] at y2
      exact ⟨q.1, 14, y1, y2, Or.inl ⟨rfl, metX17_holds (frH_ge d) ih z⟩⟩
    replace z := ie c0 z
    by_cases c1 : q.2 = 15
    · replace z := it c1 z
      rw [c1] at y2
      exact ⟨q.1, 15, y1, y2, Or.inr (Or.inl ⟨rfl, metX18_holds (frH_ge d) ih z⟩)⟩
    replace z := ie c1 z
    by_cases c2 : q.2 = 16
    · replace z := it c2 z
      rw [c2] at y2
      exact ⟨q.1, 16, y1, y2, Or.inr (Or.inr (Or.inl ⟨rfl, metX19_holds (frH_ge d) ih z⟩))⟩
    replace z := ie c2 z
    by_cases c3 : q.2 = 17
    · replace z := it c3 z
      rw [c3] at y2
      exact ⟨q.1, 17, y1, y2, Or.inr (Or.inr (Or.inr (⟨rfl, metX20_holds (frH_ge d) ih z⟩)))⟩
    replace z := ie c3 z
    cases z

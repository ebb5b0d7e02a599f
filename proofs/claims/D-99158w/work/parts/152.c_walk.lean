def rsD (K : KE) : Nat → Nat → HS → Nat → Option (HS × (Nat ⊕ Option Nat))
  | 0, _, _, _ => none
  | d + 1, 0, h, a => fX2_sum K h (rsD K d) a
  | d + 1, 1, h, a => fX2_atom K h (rsD K d) a
  | d + 1, 2, h, a => fX2_test K h (rsD K d) a
  | d + 1, 3, h, a => fX2_fact K h (rsD K d) a
  | _ + 1, _ + 4, _, _ => none
theorem rsD_ok {l : Launch} {A : Nat → Prop} {D : va_G} {ac : Nat → ClassId} {K : KE} : ∀ d, ROK l A D ac K (frR d) (loR d) (rsD K d) := by
  intro d
  induction d with
  | zero => exact ⟨fun h a x z => (by cases z), fun h a x z => (by cases z), fun h a x z => (by cases z), fun h a x z => (by cases z)⟩
  | succ d ih =>
    refine ⟨fun h a x z => ?_, fun h a x z => ?_, fun h a x z => ?_, fun h a x z => ?_⟩
    · exact metX2_sum (frR_ge d) ih z
    · exact metX2_atom (frR_ge d) ih z
    · exact metX2_test (frR_ge d) ih z
    · exact metX2_fact (frR_ge d) ih z

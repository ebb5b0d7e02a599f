/-! PARSER, Strings alike -/
set_option maxRecDepth 100000
section PSR
variable {K : KE} {h : HS} {a i n k p q e L y ci t : Nat} {M M' : CM} {σ σ' : MS} {B : Nat → Nat}
theorem k_gI {x : Int32} {fs : List Value} (q : rd K h y = some (.inr (ci, fs))) (hk : vp_V fs k = .int x) : gI K h (some y) ci k = some x := by
  simp [gI, oV, q, hk, toI]
theorem k_gR {x : Option Nat} {fs : List Value} (q : rd K h y = some (.inr (ci, fs))) (hk : vp_V fs k = va_rf x) : gR K h (some y) ci k = some x := by
  simp only [gR, oV, q, if_true, Option.bind_some, hk, toR_rf]
theorem k_rcv {fs : List Value} (q : rd K h y = some (.inr (ci, fs))) : rcv K h (some y) ci = some y := by
  simp [rcv, q]
theorem k_ckL {fs : List Value} {cis : List Nat} (q : rd K h y = some (.inr (ci, fs))) (hc : ci ∈ cis) : ckL K h (some y) cis = some () := by
  simp [ckL, q, hc]
theorem k_cI {f : Nat → Int32} (q : rd K h y = some (iA t n f)) (hk : k < n) (hn : n < 2 ^ 31) : cI K h (some y) t (nI k) = some (f k) := by
  simp only [cI, arr, q, if_true]
  rw [inx_k (by omega), decide_eq_true hk, nI_clamp (by omega)]
  rfl
theorem k_cR {f : Nat → Option Nat} (q : rd K h y = some (rA t n f)) (hk : k < n) (hn : n < 2 ^ 31) : cR K h (some y) t (nI k) = some (f k) := by
  simp only [cR, arr, q, if_true]
  rw [inx_k (by omega), decide_eq_true hk, nI_clamp (by omega)]
  rfl
theorem k_cN {f : Nat → Int32} (q : rd K h y = some (iA t n f)) : cN K h (some y) t = some (nI n) := by
  simp [cN, arr, q]
theorem k_cNr {f : Nat → Option Nat} (q : rd K h y = some (rA t n f)) : cN K h (some y) t = some (nI n) := by
  simp [cN, arr, q]
/-- at y stands a String of n bytes f -/
def SG (K : KE) (h : HS) (y n : Nat) (f : Nat → Int32) : Prop := ∃ (va : Nat) (g : Nat → Int32) (hs hz : Int32), rd K h y = some (.inr (20, [.ref va, .int 0, .int hs, .int hz])) ∧ rd K h va = some (iA 3 n g) ∧ n ≤ 1600 ∧ ∀ i, i < n → g i = f i
theorem eq9_o {v1 v2 : Nat} {f1 f2 : Nat → Int32} (q1 : rd K h v1 = some (iA 3 n f1)) (q2 : rd K h v2 = some (iA 3 n f2)) (hn : n ≤ 1600) : ∃ r, fJ9_equals_9 K h FU (some v1) (some v2) 0 = some r ∧ (r = 1 ∧ (∀ i, i < n → f1 i = f2 i) ∨ r = 0 ∧ ¬ ∀ i, i < n → f1 i = f2 i) := by
  refine lp1z (F := fun m (_ : Unit) k => fJ9_equals_9 K h m (some v1) (some v2) k) (N := n) (x := ()) (I := fun k _ => ∀ i, i < k → f1 i = f2 i) (P := fun o => ∃ r, o = some r ∧ (r = 1 ∧ (∀ i, i < n → f1 i = f2 i) ∨ r = 0 ∧ ¬ ∀ i, i < n → f1 i = f2 i)) (by omega) (fun i hi => absurd hi (by omega)) ?_ ?_
  · intro m _ k hk hv
    have kk := nI_ge hk (show n < 2 ^ 31 by omega)
    by_cases z : f1 k = f2 k
    · refine Or.inl ⟨(), fun i hi => ?_, ?_⟩
      · by_cases e : i = k
        · subst e; exact z
        · exact hv i (by omega)
      · simp only [fJ9_equals_9, k_cN q1, bsm, if_neg kk, k_cI q1 hk (by omega), k_cI q2 hk (by omega), if_pos z, nI_1]
    · refine Or.inr ⟨0, ?_, Or.inr ⟨rfl, fun y => z (y k hk)⟩⟩
      simp only [fJ9_equals_9, k_cN q1, bsm, if_neg kk, k_cI q1 hk (by omega), k_cI q2 hk (by omega), if_neg z]
  · intro m _ hv
    have kk := nI_le (Nat.le_refl n) (show n < 2 ^ 31 by omega)
    exact ⟨1, by simp only [fJ9_equals_9, k_cN q1, bsm, if_pos kk], Or.inl ⟨rfl, hv⟩⟩
theorem SG.eq {y1 y2 n1 n2 : Nat} {f1 f2 : Nat → Int32} (S1 : SG K h y1 n1 f1) (S2 : SG K h y2 n2 f2) : ∃ r, fJ6_equals K h y1 (some y2) = some r ∧ (r = 1 ∧ (n1 = n2 ∧ ∀ i, i < n1 → f1 i = f2 i) ∨ r = 0 ∧ ¬ (n1 = n2 ∧ ∀ i, i < n1 → f1 i = f2 i)) := by
  obtain ⟨v1, g1, a1, b1, p1, q1, m1, e1⟩ := S1
  obtain ⟨v2, g2, a2, b2, p2, q2, m2, e2⟩ := S2
  by_cases hy : y1 = y2
  · subst hy
    rw [p1] at p2
    cases p2
    rw [q1] at q2
    cases q2
    refine ⟨1, ?_, Or.inl ⟨rfl, rfl, fun i hi => by rw [← e1 i hi, e2 i hi]⟩⟩
    unfold fJ6_equals
    rw [if_pos rfl]
  · have hy' : ¬ (some y1 = some y2) := fun z => hy (Option.some.inj z)
    have n1' : ¬ (1 : Int32) = 0 := by decide
    have r1 := k_rcv p2
    have r2 := k_ckL (cis := [20]) p2 (by simp)
    have c1 : gI K h (some y1) 20 1 = some 0 := k_gI p1 rfl
    have c2 : gI K h (some y2) 20 1 = some 0 := k_gI p2 rfl
    have d1 : gR K h (some y1) 20 0 = some (some v1) := k_gR p1 rfl
    have d2 : gR K h (some y2) 20 0 = some (some v2) := k_gR p2 rfl
    have z1 := k_cN q1
    have z2 := k_cN q2
    have base : fJ6_equals K h y1 (some y2) = (fJ9_equals K h (some v1) (some v2)).bind fun x3 => if x3 = 0 then some (0 : Int32) else some 1 := by
      simp only [fJ6_equals, if_neg hy', r1, bsm, if_neg n1', r2, c1, c2, if_true, fJ6_equals_36, d1, d2]
    rw [base]
    by_cases hn : n1 = n2
    · subst hn
      obtain ⟨r, w1, w2⟩ := eq9_o q1 q2 m1
      have w0 : fJ9_equals K h (some v1) (some v2) = some r := by
        simp only [fJ9_equals, z1, z2, bsm, if_true, w1]
      rw [w0, bsm]
      rcases w2 with ⟨rfl, w2⟩ | ⟨rfl, w2⟩
      · exact ⟨1, by rw [if_neg n1'], Or.inl ⟨rfl, rfl, fun i hi => by rw [← e1 i hi, ← e2 i hi]; exact w2 i hi⟩⟩
      · exact ⟨0, by rw [if_pos rfl], Or.inr ⟨rfl, fun y => w2 (fun i hi => by rw [e1 i hi, e2 i hi]; exact y.2 i hi)⟩⟩
    · refine ⟨0, ?_, Or.inr ⟨rfl, fun y => hn y.1⟩⟩
      have : ¬ nI n1 = nI n2 := fun z => hn ((nI_eq (by omega) (by omega)).mp z)
      simp only [fJ9_equals, z1, z2, bsm, if_neg this, if_true]
end PSR

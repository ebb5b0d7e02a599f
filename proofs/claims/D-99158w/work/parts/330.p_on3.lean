/-! PLAIN LAW, an image is taken on: the twin's row, and both -/
set_option maxRecDepth 100000
/-- the twin's row alone has changed -/
def T5 (σ σ' : MS) : Prop := σ'.1 = σ.1 ∧ σ'.2.1 = σ.2.1 ∧ σ'.2.2.2 = σ.2.2.2 ∧ ∀ k, k ≠ 54 → σ'.2.2.1 k = σ.2.2.1 k
section PO3
variable {K : KE} {a i n k f p m nk nf np hr tp r j w c q : Nat} {M M' M1 M2 M3 : CM} {σ σ' σ1 σ2 : MS} {pt : Nat → Nat} {vl vf vm : Option Nat} {B : Nat → Nat}
theorem T5.refl (σ : MS) : T5 σ σ := ⟨rfl, rfl, rfl, fun _ _ => rfl⟩
theorem T5.tr (h : T5 σ σ1) (g : T5 σ1 σ2) : T5 σ σ2 := ⟨g.1.trans h.1, g.2.1.trans h.2.1, g.2.2.1.trans h.2.2.1, fun k hk => (g.2.2.2 k hk).trans (h.2.2.2 k hk)⟩
theorem T5.set {v : Int32} (h : T5 σ σ') : T5 σ (sA σ' 54 j v) := ⟨h.1, h.2.1, h.2.2.1, fun k hk => by rw [sA_n hk]; exact h.2.2.2 k hk⟩
theorem T5.up (h : T5 σ σ') : UpE σ σ' := ⟨fun k hk => h.2.2.2 k (by omega), by rw [h.2.2.1]⟩
theorem T5.te (h : T5 σ σ') : TE σ σ' := ⟨fun k _ => by rw [h.1], by rw [h.2.1], fun k hk => h.2.2.2 k (by omega)⟩
theorem onW_s (X : HX a M σ nk nf np pt vl vf vm) (Z : BT σ B) (hw : w < 6) (hb : pf nk nf w + 2 * nk + nf < 1500) (kt : MS → Int32 → Option (MS × Int32)) : ∃ σ', fX6_on_112 kt FU σ (nI w) (nI (pf nk nf w)) 0 = kt σ' (nI (w + 1)) ∧ T5 σ σ' ∧ ∀ j, σ'.2.2.1 54 j = if 2 + 14 * w + 6 ≤ j ∧ j < 2 + 14 * w + 6 + nf then nI (B (pf nk nf w + 2 * nk + (j - (2 + 14 * w + 6)))) else σ.2.2.1 54 j := by
  have b := X.bk
  refine lp1z (F := fun n (s : MS) k => fX6_on_112 kt n s (nI w) (nI (pf nk nf w)) k) (N := nf) (x := σ)
    (I := fun q s => T5 σ s ∧ ∀ j, s.2.2.1 54 j = if 2 + 14 * w + 6 ≤ j ∧ j < 2 + 14 * w + 6 + q then nI (B (pf nk nf w + 2 * nk + (j - (2 + 14 * w + 6)))) else σ.2.2.1 54 j)
    (P := fun r => ∃ σ', r = kt σ' (nI (w + 1)) ∧ T5 σ σ' ∧ ∀ j, σ'.2.2.1 54 j = if 2 + 14 * w + 6 ≤ j ∧ j < 2 + 14 * w + 6 + nf then nI (B (pf nk nf w + 2 * nk + (j - (2 + 14 * w + 6)))) else σ.2.2.1 54 j) (by omega) ⟨T5.refl σ, fun j => by rw [if_neg (by omega)]⟩ ?_ ?_
  · rintro n s q hq ⟨T, e⟩
    have kk := nI_ge hq (show nf < 2 ^ 31 by omega)
    have Xs := X.to (SameH.refl M) T.up.up
    have Zs : BT s B := Z.to (T.2.2.2 0 (by omega))
    have ea : nI (pf nk nf w) + 2 * nI nk + nI q = nI (pf nk nf w + 2 * nk + q) := by rw [ki2, nI_mul, nI_add, nI_add]
    refine Or.inl ⟨sA s 54 (2 + 14 * w + 6 + q) (nI (B (pf nk nf w + 2 * nk + q))), ⟨T.set, fun j => ?_⟩, ?_⟩
    · by_cases h1 : j = 2 + 14 * w + 6 + q
      · subst h1
        rw [sA_s, if_pos (by omega)]
        exact congrArg (fun z => nI (B (pf nk nf w + 2 * nk + z))) (by omega)
      · rw [sA_m h1, e]
        by_cases h2 : 2 + 14 * w + 6 ≤ j ∧ j < 2 + 14 * w + 6 + q
        · rw [if_pos h2, if_pos (by omega)]
        · rw [if_neg h2, if_neg (by omega)]
    · have sa : fX6_seenAt s (nI w) (nI q) = some (nI (2 + 14 * w + 6 + q)) := by
        simp only [fX6_seenAt, ki2, ki14, ki6, nI_mul, nI_add]
      simp only [fX6_on_112, Xs.filmM, bsm, if_neg kk, sa, Xs.kindM, ea, Zs.at (show pf nk nf w + 2 * nk + q < 1600 by omega), tp54 (σ := s) (i := 2 + 14 * w + 6 + q) (by omega), nI_1]
  · rintro n s ⟨T, e⟩
    have kk := nI_le (Nat.le_refl nf) (show nf < 2 ^ 31 by omega)
    have Xs := X.to (SameH.refl M) T.up.up
    exact ⟨s, by simp only [fX6_on_112, Xs.filmM, bsm, if_pos kk, nI_1], T, e⟩
theorem onW_t (X : HX a M σ nk nf np pt vl vf vm) (Z : BT σ B) (hw : w < 6) (hb : pf nk nf w + 2 * nk + nf < 1500) (kt : MS → Int32 → Option (MS × Int32)) : ∃ σ', fX6_on_72 kt FU σ (nI w) (nI (pf nk nf w)) 0 = fX6_on_112 kt FU σ' (nI w) (nI (pf nk nf w)) 0 ∧ T5 σ σ' ∧ ∀ j, σ'.2.2.1 54 j = if 2 + 14 * w ≤ j ∧ j < 2 + 14 * w + nk then nI (tw B (pf nk nf w + 2 * (j - (2 + 14 * w)))) else σ.2.2.1 54 j := by
  have b := X.bk
  refine lp1z (F := fun n (s : MS) k => fX6_on_72 kt n s (nI w) (nI (pf nk nf w)) k) (N := nk) (x := σ)
    (I := fun q s => T5 σ s ∧ ∀ j, s.2.2.1 54 j = if 2 + 14 * w ≤ j ∧ j < 2 + 14 * w + q then nI (tw B (pf nk nf w + 2 * (j - (2 + 14 * w)))) else σ.2.2.1 54 j)
    (P := fun r => ∃ σ', r = fX6_on_112 kt FU σ' (nI w) (nI (pf nk nf w)) 0 ∧ T5 σ σ' ∧ ∀ j, σ'.2.2.1 54 j = if 2 + 14 * w ≤ j ∧ j < 2 + 14 * w + nk then nI (tw B (pf nk nf w + 2 * (j - (2 + 14 * w)))) else σ.2.2.1 54 j) (by omega) ⟨T5.refl σ, fun j => by rw [if_neg (by omega)]⟩ ?_ ?_
  · rintro n s q hq ⟨T, e⟩
    have kk := nI_ge hq (show nk < 2 ^ 31 by omega)
    have Xs := X.to (SameH.refl M) T.up.up
    have Zs : BT s B := Z.to (T.2.2.2 0 (by omega))
    have ea : nI (pf nk nf w) + 2 * nI q = nI (pf nk nf w + 2 * q) := by rw [ki2, nI_mul, nI_add]
    refine Or.inl ⟨sA s 54 (2 + 14 * w + q) (nI (tw B (pf nk nf w + 2 * q))), ⟨T.set, fun j => ?_⟩, ?_⟩
    · by_cases h1 : j = 2 + 14 * w + q
      · subst h1
        rw [sA_s, if_pos (by omega)]
        exact congrArg (fun z => nI (tw B (pf nk nf w + 2 * z))) (by omega)
      · rw [sA_m h1, e]
        by_cases h2 : 2 + 14 * w ≤ j ∧ j < 2 + 14 * w + q
        · rw [if_pos h2, if_pos (by omega)]
        · rw [if_neg h2, if_neg (by omega)]
    · have sa : fX6_tasteAt s (nI w) (nI q) = some (nI (2 + 14 * w + q)) := by
        simp only [fX6_tasteAt, ki2, ki14, nI_mul, nI_add]
      simp only [fX6_on_72, Xs.kindM, bsm, if_neg kk, sa, ea, Zs.two (show pf nk nf w + 2 * q + 1 < 1600 by omega), tp54 (σ := s) (i := 2 + 14 * w + q) (by omega), nI_1]
  · rintro n s ⟨T, e⟩
    have kk := nI_le (Nat.le_refl nk) (show nk < 2 ^ 31 by omega)
    have Xs := X.to (SameH.refl M) T.up.up
    exact ⟨s, by simp only [fX6_on_72, Xs.kindM, bsm, if_pos kk], T, e⟩
theorem onW (X : HX a M σ nk nf np pt vl vf vm) (Z : BT σ B) : ∃ σ', fX6_on_55 FU σ 0 = fX6_on_174 FU σ' (nI (pf nk nf (1 + np))) 0 ∧ T5 σ σ' ∧ (∀ w k, w < 6 → k < 6 → σ'.2.2.1 54 (2 + 14 * w + k) = if w ≤ np ∧ k < nk then nI (tw B (pf nk nf w + 2 * k)) else σ.2.2.1 54 (2 + 14 * w + k)) ∧ (∀ w k, w < 6 → k < 8 → σ'.2.2.1 54 (2 + 14 * w + 6 + k) = if w ≤ np ∧ k < nf then nI (B (pf nk nf w + 2 * nk + k)) else σ.2.2.1 54 (2 + 14 * w + 6 + k)) ∧ (∀ j, j < 2 ∨ 86 ≤ j → σ'.2.2.1 54 j = σ.2.2.1 54 j) := by
  have b := X.bk
  refine lp1z (F := fun n (s : MS) k => fX6_on_55 n s k) (N := np + 1) (x := σ)
    (I := fun v s => T5 σ s ∧ (∀ w k, w < 6 → k < 6 → s.2.2.1 54 (2 + 14 * w + k) = if w < v ∧ k < nk then nI (tw B (pf nk nf w + 2 * k)) else σ.2.2.1 54 (2 + 14 * w + k)) ∧ (∀ w k, w < 6 → k < 8 → s.2.2.1 54 (2 + 14 * w + 6 + k) = if w < v ∧ k < nf then nI (B (pf nk nf w + 2 * nk + k)) else σ.2.2.1 54 (2 + 14 * w + 6 + k)) ∧ (∀ j, j < 2 ∨ 86 ≤ j → s.2.2.1 54 j = σ.2.2.1 54 j))
    (P := fun r => ∃ σ', r = fX6_on_174 FU σ' (nI (pf nk nf (1 + np))) 0 ∧ T5 σ σ' ∧ (∀ w k, w < 6 → k < 6 → σ'.2.2.1 54 (2 + 14 * w + k) = if w ≤ np ∧ k < nk then nI (tw B (pf nk nf w + 2 * k)) else σ.2.2.1 54 (2 + 14 * w + k)) ∧ (∀ w k, w < 6 → k < 8 → σ'.2.2.1 54 (2 + 14 * w + 6 + k) = if w ≤ np ∧ k < nf then nI (B (pf nk nf w + 2 * nk + k)) else σ.2.2.1 54 (2 + 14 * w + 6 + k)) ∧ (∀ j, j < 2 ∨ 86 ≤ j → σ'.2.2.1 54 j = σ.2.2.1 54 j)) (by omega) ⟨T5.refl σ, fun w k _ _ => by rw [if_neg (by omega)], fun w k _ _ => by rw [if_neg (by omega)], fun _ _ => rfl⟩ ?_ ?_
  · rintro n s v hv ⟨T, e1, e2, e3⟩
    have kk : ¬ nI np < nI v := fun z => by rw [nI_ltE (by omega) (by omega)] at z; omega
    have hb := pf_le (w := v) b (by omega)
    have Xs := X.to (SameH.refl M) T.up.up
    have Zs : BT s B := Z.to (T.2.2.2 0 (by omega))
    obtain ⟨s1, g1, g2, g3⟩ := onW_t (w := v) Xs Zs (by omega) (by omega) (fun σ' b2 => fX6_on_55 n σ' b2)
    have Xs1 := Xs.to (SameH.refl M) g2.up.up
    have Zs1 : BT s1 B := Zs.to (g2.2.2.2 0 (by omega))
    obtain ⟨s2, d1, d2, d3⟩ := onW_s (w := v) Xs1 Zs1 (by omega) (by omega) (fun σ' b2 => fX6_on_55 n σ' b2)
    refine Or.inl ⟨s2, ⟨(T.tr g2).tr d2, fun w k hw hk => ?_, fun w k hw hk => ?_, fun j hj => ?_⟩, ?_⟩
    · rw [d3, if_neg (by omega), g3]
      by_cases z : w = v ∧ k < nk
      · rw [if_pos (by omega), if_pos (by omega), z.1]
        exact congrArg (fun z => nI (tw B (pf nk nf v + 2 * z))) (by omega)
      · rw [if_neg (by omega), e1 w k hw hk]
        by_cases z2 : w < v ∧ k < nk
        · rw [if_pos z2, if_pos (by omega)]
        · rw [if_neg z2, if_neg (by omega)]
    · rw [d3]
      by_cases z : w = v ∧ k < nf
      · rw [if_pos (by omega), if_pos (by omega), z.1]
        exact congrArg (fun z => nI (B (pf nk nf v + 2 * nk + z))) (by omega)
      · rw [if_neg (by omega), g3, if_neg (by omega), e2 w k hw hk]
        by_cases z2 : w < v ∧ k < nf
        · rw [if_pos z2, if_pos (by omega)]
        · rw [if_neg z2, if_neg (by omega)]
    · rw [d3, if_neg (by omega), g3, if_neg (by omega), e3 j hj]
    · simp only [fX6_on_55, Xs.persM, bsm, if_neg kk, pfT Xs v, g1, d1]
  · rintro n s ⟨T, e1, e2, e3⟩
    have kk : nI np < nI (np + 1) := by rw [nI_ltE (by omega) (by omega)]; omega
    have Xs := X.to (SameH.refl M) T.up.up
    refine ⟨s, ?_, T, fun w k hw hk => ?_, fun w k hw hk => ?_, e3⟩
    · simp only [fX6_on_55, Xs.persM, bsm, if_pos kk, nI_1', pfT Xs (1 + np)]
    · rw [e1 w k hw hk]
      by_cases z : w < np + 1 ∧ k < nk
      · rw [if_pos z, if_pos (by omega)]
      · rw [if_neg z, if_neg (by omega)]
    · rw [e2 w k hw hk]
      by_cases z : w < np + 1 ∧ k < nf
      · rw [if_pos z, if_pos (by omega)]
      · rw [if_neg z, if_neg (by omega)]
theorem onW_p (X : HX a M σ nk nf np pt vl vf vm) (Z : BT σ B) (hq : q ≤ 130) : ∃ σ', fX6_on_174 FU σ (nI q) 0 = some (sI σ' 68 0, 1) ∧ T5 σ σ' ∧ (∀ p, p < 5 → σ'.2.2.1 54 (86 + 2 * p) = (if p < np then nI (B (q + 3 * p)) else σ.2.2.1 54 (86 + 2 * p)) ∧ σ'.2.2.1 54 (86 + 2 * p + 1) = if p < np then nI (tw B (q + 3 * p + 1)) else σ.2.2.1 54 (86 + 2 * p + 1)) ∧ (∀ j, j < 86 → σ'.2.2.1 54 j = σ.2.2.1 54 j) ∧ σ'.2.2.1 54 96 = 0 := by
  have b := X.bk
  refine lp1z (F := fun n (s : MS) k => fX6_on_174 n s (nI q) k) (N := np) (x := σ)
    (I := fun v s => T5 σ s ∧ (∀ p, p < 5 → s.2.2.1 54 (86 + 2 * p) = (if p < v then nI (B (q + 3 * p)) else σ.2.2.1 54 (86 + 2 * p)) ∧ s.2.2.1 54 (86 + 2 * p + 1) = if p < v then nI (tw B (q + 3 * p + 1)) else σ.2.2.1 54 (86 + 2 * p + 1)) ∧ (∀ j, j < 86 → s.2.2.1 54 j = σ.2.2.1 54 j))
    (P := fun r => ∃ σ', r = some (sI σ' 68 0, 1) ∧ T5 σ σ' ∧ (∀ p, p < 5 → σ'.2.2.1 54 (86 + 2 * p) = (if p < np then nI (B (q + 3 * p)) else σ.2.2.1 54 (86 + 2 * p)) ∧ σ'.2.2.1 54 (86 + 2 * p + 1) = if p < np then nI (tw B (q + 3 * p + 1)) else σ.2.2.1 54 (86 + 2 * p + 1)) ∧ (∀ j, j < 86 → σ'.2.2.1 54 j = σ.2.2.1 54 j) ∧ σ'.2.2.1 54 96 = 0) (by omega) ⟨T5.refl σ, fun p _ => by rw [if_neg (by omega), if_neg (by omega)]; exact ⟨rfl, rfl⟩, fun _ _ => rfl⟩ ?_ ?_
  · rintro n s v hv ⟨T, e1, e2⟩
    have kk := nI_ge hv (show np < 2 ^ 31 by omega)
    have Xs := X.to (SameH.refl M) T.up.up
    have Zs : BT s B := Z.to (T.2.2.2 0 (by omega))
    have Zs1 : BT (sA s 54 (86 + 2 * v) (nI (B (q + 3 * v)))) B := Zs.to (sA_n (by omega))
    have ea : nI q + 3 * nI v = nI (q + 3 * v) := by rw [ki3, nI_mul, nI_add]
    have eb : nI (q + 1) + 3 * nI v = nI (q + 3 * v + 1) := by rw [ki3, nI_mul, nI_add]; exact congrArg nI (by omega)
    have ec : (86 : Int32) + 2 * nI v = nI (86 + 2 * v) := by rw [ki86, ki2, nI_mul, nI_add]
    refine Or.inl ⟨sA (sA s 54 (86 + 2 * v) (nI (B (q + 3 * v)))) 54 (86 + 2 * v + 1) (nI (tw B (q + 3 * v + 1))), ⟨T.set.set, fun p hp' => ?_, fun j hj => ?_⟩, ?_⟩
    · by_cases z : p = v
      · subst z
        rw [if_pos (by omega), if_pos (by omega), sA_s, sA_m (by omega), sA_s]
        exact ⟨rfl, rfl⟩
      · rw [sA_m (by omega), sA_m (by omega), sA_m (by omega), sA_m (by omega), (e1 p hp').1, (e1 p hp').2]
        by_cases z2 : p < v
        · rw [if_pos z2, if_pos z2, if_pos (by omega), if_pos (by omega)]
          exact ⟨rfl, rfl⟩
        · rw [if_neg z2, if_neg z2, if_neg (by omega), if_neg (by omega)]
          exact ⟨rfl, rfl⟩
    · rw [sA_m (by omega), sA_m (by omega)]
      exact e2 j hj
    · simp only [fX6_on_174, Xs.persM, bsm, if_neg kk, ea, Zs.at (show q + 3 * v < 1600 by omega), ec, tp54 (σ := s) (i := 86 + 2 * v) (by omega), nI_1, eb, Zs1.two (show q + 3 * v + 1 + 1 < 1600 by omega), tp54 (i := 86 + 2 * v + 1) (show 86 + 2 * v + 1 < 257 by omega)]
  · rintro n s ⟨T, e1, e2⟩
    have kk := nI_le (Nat.le_refl np) (show np < 2 ^ 31 by omega)
    have Xs := X.to (SameH.refl M) T.up.up
    have t96 : tI s 54 (96 : Int32) 0 = some (sA s 54 96 0) := tp54 (σ := s) (i := 96) (by omega)
    refine ⟨sA s 54 96 0, ?_, T.set, fun p hp' => ?_, fun j hj => ?_, sA_s⟩
    · simp only [fX6_on_174, Xs.persM, bsm, if_pos kk, t96]
    · rw [sA_m (by omega), sA_m (by omega)]; exact e1 p hp'
    · rw [sA_m (by omega)]; exact e2 j hj
theorem RE.u0 (E : RE K a M σ n nf np pt) (hn : np ≤ 5) : RE K a (mI M 0 17 0) (sI σ 68 0) n nf np pt := by
  obtain ⟨h1, h2, h3, h4, h5, h6, h7, h8, h9, h10, h11⟩ := E
  refine ⟨h1.to (fun o ho => mI_o (by omega)) (fun _ _ => rfl), h2.to (mI_n (by omega)) rfl (sI_n (by omega)), h3.to (mI_o (by omega)) rfl, h4.to (mI_n (by omega)) (mI_n (by omega)) (sI_n (by omega)) (sI_n (by omega)), h5.to (mI_o (by omega)) rfl, h6.to (mI_n (by omega)) (fun o ho => mI_o (by omega)) (sI_n (by omega)) rfl, h7.to rfl rfl, h8.to (mI_n (by omega)) (mI_o (by omega)) (sI_n (by omega)) rfl, ?_, by rw [sI_n (by omega)]; exact h10, h11⟩
  obtain ⟨u, nw, κ, q1, q2, q3, q4, q5, q6, q7, q8⟩ := h9
  exact ⟨0, nw, κ, by omega, q2, mI_s, sI_s, by rw [sI_n (by omega)]; exact q5, q6, q7, fun j hj => absurd hj (by omega)⟩
end PO3

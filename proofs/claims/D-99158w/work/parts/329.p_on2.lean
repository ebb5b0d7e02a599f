/-! PLAIN LAW, an image is taken on: all of it -/
set_option maxRecDepth 100000
/-- State 1 alone has changed -/
def F1 (M1 M2 : CM) : Prop := M2.2 = M1.2 ∧ (∀ o, (o < 75 ∨ 134 ≤ o) → M2.1 o = M1.1 o) ∧ M2.1 75 2 = M1.1 75 2
section PO2
variable {K : KE} {a i n k f p m nk nf np hr tp r j w c q : Nat} {M M' M1 M2 M3 : CM} {σ σ' : MS} {pt : Nat → Nat} {vl vf vm : Option Nat} {B : Nat → Nat}
theorem F1.tr (h : F1 M1 M2) (g : F1 M2 M3) : F1 M1 M3 := ⟨g.1.trans h.1, fun o ho => (g.2.1 o ho).trans (h.2.1 o ho), g.2.2.trans h.2.2⟩
theorem pf_le (b : nk ≤ 6 ∧ nf ≤ 8 ∧ np ≤ 5) (hw : w ≤ np) : pf nk nf w + 2 * nk + nf ≤ 123 := by
  have : w * (2 * nk + nf) ≤ 5 * 20 := Nat.mul_le_mul (by omega) (by omega)
  unfold pf
  omega
theorem on_ws (X : HX a M σ nk nf np pt vl vf vm) (e0 : SameH M M1) (Z : BA M1 B) (x : Int32) :
    (∃ M2, fX0_on_108 K a FU (hp a M1) (nI (2 * nk + nf)) x 1 0 = fX0_on_142 K a (hp a M2) x 1 ∧ (∀ w, w ≤ np → VP B pt nk nf w) ∧ M2.2 = M1.2 ∧ (∀ o, (o < 77 ∨ 90 ≤ o) → M2.1 o = M1.1 o) ∧ (∀ w k, w < 6 → k < 6 → M2.1 (sbo 1 + (2 + w)) k = if w ≤ np ∧ k < nk then nI (tw B (pf nk nf w + 2 * k)) else M1.1 (sbo 1 + (2 + w)) k) ∧ (∀ w k, w < 6 → k < 8 → M2.1 (sbo 1 + (9 + w)) k = if w ≤ np ∧ k < nf then nI (B (pf nk nf w + 2 * nk + k)) else M1.1 (sbo 1 + (9 + w)) k)) ∨
    (∃ M2, fX0_on_108 K a FU (hp a M1) (nI (2 * nk + nf)) x 1 0 = fX0_on_142 K a (hp a M2) x 0 ∧ (¬ ∀ w, w ≤ np → VP B pt nk nf w) ∧ F1 M1 M2) := by
  have b := X.bk
  have s75 : sbo 1 = 75 := rfl
  refine lp1z (F := fun n (y : HS × Int32) k => fX0_on_108 K a n y.1 (nI (2 * nk + nf)) x y.2 k) (N := np + 1) (x := (hp a M1, 1))
    (I := fun w y => ∃ M2, y.1 = hp a M2 ∧ ((y.2 = 1 ∧ (∀ w', w' < w → VP B pt nk nf w') ∧ M2.2 = M1.2 ∧ (∀ o, (o < 77 ∨ 90 ≤ o) → M2.1 o = M1.1 o) ∧ (∀ w' k, w' < 6 → k < 6 → M2.1 (sbo 1 + (2 + w')) k = if w' < w ∧ k < nk then nI (tw B (pf nk nf w' + 2 * k)) else M1.1 (sbo 1 + (2 + w')) k) ∧ (∀ w' k, w' < 6 → k < 8 → M2.1 (sbo 1 + (9 + w')) k = if w' < w ∧ k < nf then nI (B (pf nk nf w' + 2 * nk + k)) else M1.1 (sbo 1 + (9 + w')) k)) ∨ (y.2 = 0 ∧ (¬ ∀ w, w ≤ np → VP B pt nk nf w) ∧ F1 M1 M2)))
    (P := fun r => (∃ M2, r = fX0_on_142 K a (hp a M2) x 1 ∧ (∀ w, w ≤ np → VP B pt nk nf w) ∧ M2.2 = M1.2 ∧ (∀ o, (o < 77 ∨ 90 ≤ o) → M2.1 o = M1.1 o) ∧ (∀ w k, w < 6 → k < 6 → M2.1 (sbo 1 + (2 + w)) k = if w ≤ np ∧ k < nk then nI (tw B (pf nk nf w + 2 * k)) else M1.1 (sbo 1 + (2 + w)) k) ∧ (∀ w k, w < 6 → k < 8 → M2.1 (sbo 1 + (9 + w)) k = if w ≤ np ∧ k < nf then nI (B (pf nk nf w + 2 * nk + k)) else M1.1 (sbo 1 + (9 + w)) k)) ∨
    (∃ M2, r = fX0_on_142 K a (hp a M2) x 0 ∧ (¬ ∀ w, w ≤ np → VP B pt nk nf w) ∧ F1 M1 M2)) (by omega) ⟨M1, rfl, Or.inl ⟨rfl, fun w' h => absurd h (by omega), rfl, fun _ _ => rfl, fun w' k _ _ => by rw [if_neg (by omega)], fun w' k _ _ => by rw [if_neg (by omega)]⟩⟩ ?_ ?_
  · rintro n ⟨h, fl⟩ w hw ⟨M2, rfl, ⟨rfl, v, e2, e3, e4, e5⟩ | ⟨rfl, v, F⟩⟩
    · have kk : ¬ nI np < nI w := fun z => by rw [nI_ltE (by omega) (by omega)] at z; omega
      have es : SameH M M2 := ⟨by rw [e2]; exact e0.1, by rw [e2]; exact e0.2⟩
      have Z2 : BA M2 B := Z.to (e3 8 (by omega))
      have hb := pf_le (w := w) b (by omega)
      obtain ⟨M4, fl, g1, g2, g3, g4⟩ := on_pf (K := K) X es Z2 (show w < 6 by omega) (by omega)
      have ea : (3 : Int32) + nI (2 * nk + nf) * nI w = nI (pf nk nf w) := by
        rw [ki3, nI_mul, nI_add, Nat.mul_comm, pf]
      have F4 : F1 M1 M4 := ⟨g3.trans e2, fun o ho => by
        funext t
        rw [g4, if_neg (by omega), if_neg (by omega), e3 o (by omega)], by rw [g4, if_neg (by omega), if_neg (by omega), e3 75 (by omega)]⟩
      refine Or.inl ⟨(hp a M4, fl), ⟨M4, rfl, ?_⟩, ?_⟩
      · rcases g2 with ⟨rfl, u⟩ | ⟨rfl, u⟩
        · refine Or.inl ⟨rfl, fun w' hw' => ?_, g3.trans e2, fun o ho => ?_, fun w' k hw' hk => ?_, fun w' k hw' hk => ?_⟩
          · by_cases e : w' = w
            · subst e; exact u
            · exact v w' (by omega)
          · funext t
            rw [g4, if_neg (by omega), if_neg (by omega), e3 o ho]
          · rw [g4]
            by_cases z : w' = w ∧ k < nk
            · rw [if_pos (by omega), if_pos (by omega), z.1]
            · rw [if_neg (by omega), if_neg (by omega), e4 w' k hw' hk]
              by_cases z2 : w' < w ∧ k < nk
              · rw [if_pos z2, if_pos (by omega)]
              · rw [if_neg z2, if_neg (by omega)]
          · rw [g4, if_neg (by omega)]
            by_cases z : w' = w ∧ k < nf
            · rw [if_pos (by omega), if_pos (by omega), z.1]
            · rw [if_neg (by omega), e5 w' k hw' hk]
              by_cases z2 : w' < w ∧ k < nf
              · rw [if_pos z2, if_pos (by omega)]
              · rw [if_neg z2, if_neg (by omega)]
        · exact Or.inr ⟨rfl, fun z => u (z w (by omega)), F4⟩
      · simp only [fX0_on_108, x_rcv, X.people es, bsm, if_neg kk, if_neg n01, ea, g1, nI_1]
    · have es : SameH M M2 := ⟨by rw [F.1]; exact e0.1, by rw [F.1]; exact e0.2⟩
      refine Or.inr (Or.inr ⟨M2, ?_, v, F⟩)
      simp only [fX0_on_108, x_rcv, X.people es, bsm, if_true]
      by_cases z : nI np < nI w
      · rw [if_pos z]
      · rw [if_neg z]
  · rintro n ⟨h, fl⟩ ⟨M2, rfl, ⟨rfl, v, e2, e3, e4, e5⟩ | ⟨rfl, v, F⟩⟩
    · have kk : nI np < nI (np + 1) := by rw [nI_ltE (by omega) (by omega)]; omega
      have es : SameH M M2 := ⟨by rw [e2]; exact e0.1, by rw [e2]; exact e0.2⟩
      refine Or.inl ⟨M2, ?_, fun w hw => v w (by omega), e2, e3, fun w k hw hk => ?_, fun w k hw hk => ?_⟩
      · simp only [fX0_on_108, x_rcv, X.people es, bsm, if_pos kk]
      · rw [e4 w k hw hk]
        by_cases z : w < np + 1 ∧ k < nk
        · rw [if_pos z, if_pos (by omega)]
        · rw [if_neg z, if_neg (by omega)]
      · rw [e5 w k hw hk]
        by_cases z : w < np + 1 ∧ k < nf
        · rw [if_pos z, if_pos (by omega)]
        · rw [if_neg z, if_neg (by omega)]
    · have es : SameH M M2 := ⟨by rw [F.1]; exact e0.1, by rw [F.1]; exact e0.2⟩
      have kk : nI np < nI (np + 1) := by rw [nI_ltE (by omega) (by omega)]; omega
      refine Or.inr ⟨M2, ?_, v, F⟩
      simp only [fX0_on_108, x_rcv, X.people es, bsm, if_pos kk]
theorem on_z (X : HX a M σ nk nf np pt vl vf vm) (e0 : SameH M M1) (x : Int32) : fX0_on_142 K a (hp a M1) x 0 = fX0_on_179 K a (hp a M1) 0 := by
  obtain ⟨fu, hf⟩ : ∃ fu, FU = fu + 1 := ⟨99999, rfl⟩
  simp only [fX0_on_142, hf, fX0_on_145, x_rcv, X.people e0, bsm, if_true]
  by_cases z : nI np ≤ 0
  · rw [if_pos z]
  · rw [if_neg z]
theorem on_ps (X : HX a M σ nk nf np pt vl vf vm) (e0 : SameH M M1) (Z : BA M1 B) (hq : q ≤ 130) (h0 : M1.1 75 1 = 0) :
    (∃ M2, fX0_on_142 K a (hp a M1) (nI q) 1 = fX0_on_179 K a (hp a M2) 1 ∧ (∀ p, p < np → VQ B q p) ∧ M2.2 = M1.2 ∧ (∀ o, o ≠ 75 → o ≠ 90 → M2.1 o = M1.1 o) ∧ (∀ k, k ≠ 1 → M2.1 75 k = M1.1 75 k) ∧ (∃ m, m < 2 ^ np ∧ M2.1 75 1 = nI m ∧ ∀ r, r < np → m / 2 ^ r % 2 = B (q + 3 * r)) ∧ (∀ k, k < 5 → M2.1 90 k = if k < np then nI (tw B (q + 3 * k + 1)) else M1.1 90 k)) ∨
    (∃ M2, fX0_on_142 K a (hp a M1) (nI q) 1 = fX0_on_179 K a (hp a M2) 0 ∧ (¬ ∀ p, p < np → VQ B q p) ∧ F1 M1 M2) := by
  have b := X.bk
  have s75 : sbo 1 = 75 := rfl
  have s90 : sbo 1 + 15 = 90 := rfl
  refine lp1z (F := fun n (y : HS × Int32) k => fX0_on_145 K a n y.1 (nI q) y.2 k) (N := np) (x := (hp a M1, 1))
    (I := fun p y => ∃ M2, y.1 = hp a M2 ∧ ((y.2 = 1 ∧ (∀ p', p' < p → VQ B q p') ∧ M2.2 = M1.2 ∧ (∀ o, o ≠ 75 → o ≠ 90 → M2.1 o = M1.1 o) ∧ (∀ k, k ≠ 1 → M2.1 75 k = M1.1 75 k) ∧ (∃ m, m < 2 ^ p ∧ M2.1 75 1 = nI m ∧ ∀ r, r < p → m / 2 ^ r % 2 = B (q + 3 * r)) ∧ (∀ k, k < 5 → M2.1 90 k = if k < p then nI (tw B (q + 3 * k + 1)) else M1.1 90 k)) ∨ (y.2 = 0 ∧ (¬ ∀ p, p < np → VQ B q p) ∧ F1 M1 M2)))
    (P := fun r => (∃ M2, r = fX0_on_179 K a (hp a M2) 1 ∧ (∀ p, p < np → VQ B q p) ∧ M2.2 = M1.2 ∧ (∀ o, o ≠ 75 → o ≠ 90 → M2.1 o = M1.1 o) ∧ (∀ k, k ≠ 1 → M2.1 75 k = M1.1 75 k) ∧ (∃ m, m < 2 ^ np ∧ M2.1 75 1 = nI m ∧ ∀ r, r < np → m / 2 ^ r % 2 = B (q + 3 * r)) ∧ (∀ k, k < 5 → M2.1 90 k = if k < np then nI (tw B (q + 3 * k + 1)) else M1.1 90 k)) ∨
    (∃ M2, r = fX0_on_179 K a (hp a M2) 0 ∧ (¬ ∀ p, p < np → VQ B q p) ∧ F1 M1 M2)) (by omega) ⟨M1, rfl, Or.inl ⟨rfl, fun w' h => absurd h (by omega), rfl, fun _ _ _ => rfl, fun _ _ => rfl, ⟨0, by omega, h0, fun r hr => absurd hr (by omega)⟩, fun k _ => by rw [if_neg (by omega)]⟩⟩ ?_ ?_
  · rintro n ⟨h, fl⟩ p hp' ⟨M2, rfl, ⟨rfl, v, e2, e3, e4, ⟨m, m1, m2, m3⟩, e5⟩ | ⟨rfl, v, F⟩⟩
    · have kk := nI_ge hp' (show np < 2 ^ 31 by omega)
      have es : SameH M M2 := ⟨by rw [e2]; exact e0.1, by rw [e2]; exact e0.2⟩
      have Z2 : BA M2 B := Z.to (e3 8 (by omega) (by omega))
      obtain ⟨M4, fl, m', g1, g2, rfl, g4, g5⟩ := on_pn (K := K) (a := a) Z2 (show p < 5 by omega) (q := q) (by omega) m2 m1
      have ea : nI q + 3 * nI p = nI (q + 3 * p) := by rw [ki3, nI_mul, nI_add]
      refine Or.inl ⟨(hp a (mI (mI M2 (sbo 1) 1 (nI m')) (sbo 1 + 15) p (nI (tw B (q + 3 * p + 1)))), fl), ⟨mI (mI M2 (sbo 1) 1 (nI m')) (sbo 1 + 15) p (nI (tw B (q + 3 * p + 1))), rfl, ?_⟩, ?_⟩
      rotate_left
      · simp only [fX0_on_145, x_rcv, X.people es, bsm, if_neg kk, if_neg n01, ea, g1, nI_1]
      · rcases g2 with ⟨rfl, u⟩ | ⟨rfl, u⟩
        · refine Or.inl ⟨rfl, fun w' hw' => ?_, e2, fun o h1 h2 => ?_, fun k hk => ?_, ⟨m', g4, ?_, fun r hr => ?_⟩, fun k hk => ?_⟩
          · by_cases e : w' = p
            · subst e; exact u
            · exact v w' (by omega)
          · rw [mI_o (by omega), mI_o (by omega)]; exact e3 o h1 h2
          · rw [mI_n (by omega), mI_n (by omega)]; exact e4 k hk
          · rw [mI_n (by omega)]; exact mI_s
          · by_cases e : r = p
            · subst e; exact (g5 u.1).1
            · rw [(g5 u.1).2 r (by omega)]; exact m3 r (by omega)
          · by_cases e : k = p
            · subst e
              rw [if_pos (by omega)]; exact mI_s
            · rw [mI_n (by omega), mI_n (by omega), e5 k hk]
              by_cases z : k < p
              · rw [if_pos z, if_pos (by omega)]
              · rw [if_neg z, if_neg (by omega)]
        · exact Or.inr ⟨rfl, fun z => u (z p (by omega)), e2, fun o ho => by rw [mI_o (by omega), mI_o (by omega)]; exact e3 o (by omega) (by omega), by rw [mI_n (by omega), mI_n (by omega)]; exact e4 2 (by omega)⟩
    · have es : SameH M M2 := ⟨by rw [F.1]; exact e0.1, by rw [F.1]; exact e0.2⟩
      refine Or.inr (Or.inr ⟨M2, ?_, v, F⟩)
      simp only [fX0_on_145, x_rcv, X.people es, bsm, if_true]
      by_cases z : nI np ≤ nI p
      · rw [if_pos z]
      · rw [if_neg z]
  · rintro n ⟨h, fl⟩ ⟨M2, rfl, ⟨rfl, v, e2, e3, e4, e6, e5⟩ | ⟨rfl, v, F⟩⟩
    · have kk := nI_le (Nat.le_refl np) (show np < 2 ^ 31 by omega)
      have es : SameH M M2 := ⟨by rw [e2]; exact e0.1, by rw [e2]; exact e0.2⟩
      refine Or.inl ⟨M2, ?_, v, e2, e3, e4, e6, e5⟩
      simp only [fX0_on_145, x_rcv, X.people es, bsm, if_pos kk]
    · have es : SameH M M2 := ⟨by rw [F.1]; exact e0.1, by rw [F.1]; exact e0.2⟩
      have kk := nI_le (Nat.le_refl np) (show np < 2 ^ 31 by omega)
      refine Or.inr ⟨M2, ?_, v, F⟩
      simp only [fX0_on_145, x_rcv, X.people es, bsm, if_pos kk]
/-- the twin looks at an image -/
theorem onT_p (X : HX a M σ nk nf np pt vl vf vm) (Z : BT σ B) (hq : q ≤ 130) : (fX6_isImage_98 σ FU (nI q) 0 = some 1 ∧ ∀ p, p < np → VQ B q p) ∨ (fX6_isImage_98 σ FU (nI q) 0 = some 0 ∧ ¬ ∀ p, p < np → VQ B q p) := by
  have b := X.bk
  refine lp1z (F := fun n (_ : Unit) k => fX6_isImage_98 σ n (nI q) k) (N := np) (x := ()) (I := fun m _ => ∀ p, p < m → VQ B q p) (P := fun r => (r = some 1 ∧ ∀ p, p < np → VQ B q p) ∨ (r = some 0 ∧ ¬ ∀ p, p < np → VQ B q p)) (by omega) (fun f hf => absurd hf (by omega)) ?_ ?_
  · intro n _ p hk hv
    have kk := nI_ge hk (show np < 2 ^ 31 by omega)
    have hl := (Z (q + 3 * p) (by omega)).1
    have hl2 := tw_le (Z (q + 3 * p + 1) (by omega)).1 (Z (q + 3 * p + 1 + 1) (by omega)).1
    have ea : nI q + 3 * nI p = nI (q + 3 * p) := by rw [ki3, nI_mul, nI_add]
    have eb : nI (q + 1) + 3 * nI p = nI (q + 3 * p + 1) := by rw [ki3, nI_mul, nI_add]; exact congrArg nI (by omega)
    have k1 : ((1 : Int32) < nI (B (q + 3 * p))) = (1 < B (q + 3 * p)) := nI_ltE (a := 1) (by omega) (by omega)
    have k9 : (nI (tw B (q + 3 * p + 1)) ≤ (9999 : Int32)) = (tw B (q + 3 * p + 1) ≤ 9999) := nI_leE (b := 9999) (by omega) (by omega)
    by_cases h1 : 1 < B (q + 3 * p)
    · refine Or.inr (Or.inr ⟨?_, fun z => absurd (z p hk).1 (by omega)⟩)
      simp only [fX6_isImage_98, X.persM, bsm, if_neg kk, ea, Z.at (show q + 3 * p < 1600 by omega), k1, if_pos h1]
    · by_cases h : tw B (q + 3 * p + 1) ≤ 9999
      · refine Or.inl ⟨(), fun f hf => ?_, ?_⟩
        · by_cases e : f = p
          · subst e; exact ⟨by omega, h⟩
          · exact hv f (by omega)
        · simp only [fX6_isImage_98, X.persM, bsm, if_neg kk, ea, Z.at (show q + 3 * p < 1600 by omega), k1, if_neg h1, nI_1, eb, Z.two (show q + 3 * p + 1 + 1 < 1600 by omega), k9, if_pos h]
      · refine Or.inr (Or.inr ⟨?_, fun z => h (z p hk).2⟩)
        simp only [fX6_isImage_98, X.persM, bsm, if_neg kk, ea, Z.at (show q + 3 * p < 1600 by omega), k1, if_neg h1, nI_1, eb, Z.two (show q + 3 * p + 1 + 1 < 1600 by omega), k9, if_neg h]
  · intro n _ hv
    have kk := nI_le (Nat.le_refl np) (show np < 2 ^ 31 by omega)
    exact Or.inl ⟨by simp only [fX6_isImage_98, X.persM, bsm, if_pos kk], hv⟩
theorem onT_w (X : HX a M σ nk nf np pt vl vf vm) (Z : BT σ B) (hq : q ≤ 130) : (fX6_isImage_72 σ FU (nI q) 0 = some 1 ∧ (∀ w, w ≤ np → VP B pt nk nf w) ∧ ∀ p, p < np → VQ B q p) ∨ (fX6_isImage_72 σ FU (nI q) 0 = some 0 ∧ ¬ ((∀ w, w ≤ np → VP B pt nk nf w) ∧ ∀ p, p < np → VQ B q p)) := by
  have b := X.bk
  refine lp1z (F := fun n (_ : Unit) k => fX6_isImage_72 σ n (nI q) k) (N := np + 1) (x := ()) (I := fun m _ => ∀ p, p < m → VP B pt nk nf p) (P := fun r => (r = some 1 ∧ (∀ w, w ≤ np → VP B pt nk nf w) ∧ ∀ p, p < np → VQ B q p) ∨ (r = some 0 ∧ ¬ ((∀ w, w ≤ np → VP B pt nk nf w) ∧ ∀ p, p < np → VQ B q p))) (by omega) (fun f hf => absurd hf (by omega)) ?_ ?_
  · intro n _ w hk hv
    have kk : ¬ nI np < nI w := fun z => by rw [nI_ltE (by omega) (by omega)] at z; omega
    have hb := pf_le (w := w) b (by omega)
    rcases onT_pf (w := w) X Z (by omega) with ⟨h1, h2⟩ | ⟨h1, h2⟩
    · refine Or.inl ⟨(), fun f hf => ?_, ?_⟩
      · by_cases e : f = w
        · subst e; exact h2
        · exact hv f (by omega)
      · simp only [fX6_isImage_72, X.persM, bsm, if_neg kk, h1, if_neg n01, nI_1]
    · refine Or.inr (Or.inr ⟨?_, fun z => h2 (z.1 w (by omega))⟩)
      simp only [fX6_isImage_72, X.persM, bsm, if_neg kk, h1, if_true]
  · intro n _ hv
    have kk : nI np < nI (np + 1) := by rw [nI_ltE (by omega) (by omega)]; omega
    have e : fX6_isImage_72 σ (n + 1) (nI q) (nI (np + 1)) = fX6_isImage_98 σ FU (nI q) 0 := by
      simp only [fX6_isImage_72, X.persM, bsm, if_pos kk]
    rw [e]
    rcases onT_p X Z hq with ⟨h1, h2⟩ | ⟨h1, h2⟩
    · exact Or.inl ⟨h1, fun w hw => hv w (by omega), h2⟩
    · exact Or.inr ⟨h1, fun z => h2 z.2⟩
end PO2

/-! PARSER, words asked for at the component -/
set_option maxRecDepth 100000
section PPA
variable {K : KE} {a i n k p q e L t s s' : Nat} {M M' M1 M2 : CM} {σ σ' σ1 σ2 : MS} {B : Nat → Nat} {w : List Nat}
theorem EX.refl (M : CM) : EX s M M := ⟨fun _ _ _ => rfl, rfl, rfl, fun _ _ => rfl, Nat.le_refl _, Nat.le_refl _⟩
theorem EX.tr (h : EX s M M1) (g : EX s' M1 M2) (hs : s ≤ s') : EX s M M2 := ⟨fun o a b => (g.1 o a b).trans (h.1 o a b), g.2.1.trans h.2.1, g.2.2.1.trans h.2.2.1, fun y hy => (g.2.2.2.1 y (by omega)).trans (h.2.2.2.1 y hy), Nat.le_trans h.2.2.2.2.1 g.2.2.2.2.1, Nat.le_trans h.2.2.2.2.2 g.2.2.2.2.2⟩
theorem EX.si {v : Int32} {o : Nat} (h : EX s M M1) (ho : o = 9 ∨ o = 10) : EX s M (mI M1 o k v) := ⟨fun o' a b => by rw [mI_o (by omega)]; exact h.1 o' a b, h.2.1, h.2.2.1, h.2.2.2.1, h.2.2.2.2.1, h.2.2.2.2.2⟩
theorem EX.no (h : EX s M M1) (hs : a ≤ s) (hN : ∀ y, y < a → M.2.2.2.1 y = none) : ∀ y, y < a → M1.2.2.2.1 y = none := fun y hy => by rw [h.2.2.2.1 y (by omega)]; exact hN y hy
/-- the room that a word takes -/
abbrev wn (B : Nat → Nat) (L p : Nat) : Nat := we B L (sk B L p) - sk B L p
/-- the Reader's lasting numbers -/
def RK (M M' : CM) : Prop := ∀ k, k ≠ 2 → k ≠ 3 → M'.1 9 k = M.1 9 k
theorem passC (R : RD M B L p) (C : CT K a t w) (hb : a + 1352 ≤ M.2.2.2.2.1) (hN : ∀ y, y < a → M.2.2.2.1 y = none) (r1 : M.2.2.2.2.1 + 3 ≤ K.2.2.1) (r2 : M.2.2.2.2.2 + 4 + 2 * wn B L p ≤ K.2.2.2) :
    (¬ LEa B L (sk B L p) ∧ fX2_passes K (hp a M) (a + 9) (K.2.1 t) = some (hp a (mI M 9 2 (nI (sk B L p))), .inr 0)) ∨
    ((LEa B L (sk B L p) ∧ PT B (sk B L p)) ∧ ∃ M', fX2_passes K (hp a M) (a + 9) (K.2.1 t) = some (hp a M', .inl (a + 10)) ∧ M'.2 = M.2 ∧ EX M.2.2.2.2.1 M M' ∧ M'.1 10 6 = nI 1 ∧ M'.1 10 7 = nI (sk B L p)) ∨
    ((LEa B L (sk B L p) ∧ ¬ PT B (sk B L p)) ∧ ∃ M', EX M.2.2.2.2.1 M M' ∧ RK M M' ∧ M'.1 9 3 = nI (sk B L p) ∧ M'.2.2.2.2.1 = M.2.2.2.2.1 + 3 ∧ M'.2.2.2.2.2 = M.2.2.2.2.2 + 4 + 2 * wn B L p ∧ ((WQ B (sk B L p) (we B L (sk B L p)) w ∧ fX2_passes K (hp a M) (a + 9) (K.2.1 t) = some (hp a M', .inr 1) ∧ RD M' B L (we B L (sk B L p))) ∨ (¬ WQ B (sk B L p) (we B L (sk B L p)) w ∧ fX2_passes K (hp a M) (a + 9) (K.2.1 t) = some (hp a M', .inr 0) ∧ RD M' B L p))) := by
  have hL := R.2.1
  have hp' := R.2.2.1
  have hh := R.here (K := K) (a := a)
  have ql := @sk_le p L B hp'
  have ss : sk B L (sk B L p) = sk B L p := sk_sk
  unfold wn at *
  generalize hq : sk B L p = q at *
  have R1 := R.mv ql
  have l1 := (ltI (K := K) (σ := (fun _ => 0, fun _ => 0, fun _ _ => 0, fun _ _ => 0)) (p := q) R.lt hL (hp a (mI M 9 2 (nI q)))).1
  by_cases z : LEa B L q
  rotate_left
  · refine Or.inl ⟨z, ?_⟩
    simp only [fX2_passes, r_g2, bsm, r_rcv, hh, l1, if_neg z, if_true]
  have wo := word_o (K := K) (a := a) R1 hb r1 (by rw [ss]; exact r2)
  rw [ss] at wo
  have s0 : (mI M 9 2 (nI q)).2.2.2.2.1 = M.2.2.2.2.1 := rfl
  have t0 : (mI M 9 2 (nI q)).2.2.2.2.2 = M.2.2.2.2.2 := rfl
  rw [s0, t0] at wo
  rcases wo with ⟨o1, M', o2, o3, o4, o5, o6⟩ | ⟨o1, M', o2, o3, o4, o5, o6, o7, o8, o9⟩
  · have z2 : PT B q := o1.resolve_left (fun y => y z)
    refine Or.inr (Or.inl ⟨⟨z, z2⟩, M', ?_, o3, ((EX.refl M).si (Or.inl rfl)).tr o4 (Nat.le_refl _), o5, o6⟩)
    simp only [fX2_passes, r_g2, bsm, r_rcv, hh, l1, if_pos z, if_neg n01, o2, tb]
  · refine Or.inr (Or.inr ⟨o1, ?_⟩)
    have el := @we_le q L B ql
    have ex : EX M.2.2.2.2.1 M M' := ((EX.refl M).si (Or.inl rfl)).tr o3 (Nat.le_refl _)
    have hN' := ex.no (by omega) hN
    have eq := eqW o9 C hN' R.lt (show we B L q ≤ 1600 by omega)
    have rc : rcv K (hp a M') (some (M.2.2.2.2.1 + 1)) 20 = some (M.2.2.2.2.1 + 1) := by
      obtain ⟨h1, va, f, hs, hz, h2, h3, h4, h5⟩ := o9
      exact d_rcv h1 h3
    have rk : RK M M' := fun k h1 h2 => by rw [o6 k h1 h2, mI_n (by omega)]
    by_cases z3 : WQ B q (we B L q) w
    · rw [if_pos z3] at eq
      refine ⟨M', ex, rk, o5, o7, o8, Or.inl ⟨z3, ?_, o4⟩⟩
      simp only [fX2_passes, r_g2, bsm, r_rcv, hh, l1, if_pos z, if_neg n01, o2, tb, rc, eq]
    · rw [if_neg z3] at eq
      refine ⟨mI M' 9 2 (nI p), ex.si (Or.inl rfl), fun k h1 h2 => by rw [mI_n (by omega)]; exact rk k h1 h2, by rw [mI_n (by omega)]; exact o5, o7, o8, Or.inr ⟨z3, ?_, o4.mv hp'⟩⟩
      simp only [fX2_passes, r_g2, R.2.2.2.2, bsm, r_rcv, hh, l1, if_pos z, if_neg n01, o2, tb, rc, eq, if_true, r_p2]
end PPA

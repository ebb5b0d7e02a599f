/-! PARSER, words and numbers at the component -/
set_option maxRecDepth 100000
def wr (M : CM) (k x : Int32) : CM := mI (mI M 10 6 k) 10 7 x
section PWD
variable {K : KE} {a i n k p q L : Nat} {M M' : CM} {σ σ' : MS} {B : Nat → Nat}
theorem wrong_o (k x : Int32) : fX2_wrong K (hp a M) (a + 9) k x = some (hp a (wr M k x), some (a + 10)) := by
  simp only [fX2_wrong, r_g0, bsm, f_p6, f_p7, wr]
theorem parted_o (R : RD M B L q) : fX2_parted K (hp a M) (a + 9) = if PT B q then some (hp a (wr M 1 (nI q)), .inl (a + 10)) else some (hp a M, .inr ()) := by
  have hL := R.2.1
  have hq := R.2.2.1
  have e32 : fX2_parted_32 K (a + 9) (hp a M) = some (hp a (wr M 1 (nI q)), .inl (a + 10)) := by
    simp only [fX2_parted_32, r_g2, R.2.2.2.2, bsm, r_rcv, wrong_o, f_rcv]
  simp only [fX2_parted, r_g2, R.2.2.2.2, bsm, r_rcv]
  by_cases h0 : q = 0
  · subst h0
    have e : ∀ h, fX2_byteAt K h (a + 9) (nI 0 - 1) = some (-1) := fun h => by
      unfold fX2_byteAt
      rw [if_pos (by decide)]
    have e1 : ∀ h, fX0_isLetter K h (-1) = some 0 := fun h => by unfold fX0_isLetter; rw [if_pos (by decide)]
    have e2 : ∀ h, fX0_isDigit K h (-1) = some 0 := fun h => by unfold fX0_isDigit; rw [if_pos (by decide)]
    simp only [e, bsm, e1, e2, if_true]
    rw [if_neg (fun z : PT B 0 => absurd z.1 (by omega))]
  · have hb := R.lt (q - 1) (by omega)
    rw [nI_m1 (by omega), R.by (by omega), bsm, chI, if_pos (by omega), lt_c hb, bsm, bsm, dg_c hb, bsm, e32]
    by_cases z : LE (B (q - 1))
    · rw [if_pos z, if_neg n01, if_pos ⟨by omega, Or.inl z⟩]
    · rw [if_neg z, if_pos rfl]
      by_cases z2 : DI (B (q - 1))
      · rw [if_pos z2, if_neg n01, if_pos ⟨by omega, Or.inr z2⟩]
      · rw [if_neg z2, if_pos rfl, if_neg (fun y => y.2.elim z z2)]
theorem weF_b : ∀ (n p : Nat), L - p ≤ n → weF B L n p = if LEa B L p then we B L (p + 1) else p
  | 0, p, h => by rw [weF, if_neg (by omega)]
  | n + 1, p, h => by
    rw [weF]
    by_cases q : LEa B L p
    · rw [if_pos q, if_pos q, we]
      obtain ⟨m, hm⟩ : ∃ m, m = L - (p + 1) := ⟨_, rfl⟩
      rw [← hm]
      rw [weF_b n (p + 1) (by omega), weF_b m (p + 1) (by omega)]
    · rw [if_neg q, if_neg q]
theorem we_e (p : Nat) : we B L p = if LEa B L p then we B L (p + 1) else p := weF_b _ p (Nat.le_refl _)
theorem we_l (h : LEa B L p) : we B L p = we B L (p + 1) := by rw [we_e, if_pos h]
theorem we_n (h : ¬ LEa B L p) : we B L p = p := by rw [we_e, if_neg h]
theorem we_i : ∀ (d p : Nat), L - p ≤ d → p ≤ we B L p ∧ (p ≤ L → we B L p ≤ L) ∧ ¬ LEa B L (we B L p) ∧ ∀ k, p ≤ k → k < we B L p → LEa B L k
  | 0, p, h => by
    rw [we_n (by omega)]
    exact ⟨Nat.le_refl p, id, by omega, fun k h1 h2 => by omega⟩
  | d + 1, p, h => by
    by_cases q : LEa B L p
    · rw [we_l q]
      obtain ⟨h1, h2, h3, h4⟩ := we_i d (p + 1) (by omega)
      refine ⟨by omega, by omega, h3, fun k k1 k2 => ?_⟩
      by_cases z : k = p
      · subst z; exact q
      · exact h4 k (by omega) k2
    · rw [we_n q]
      exact ⟨Nat.le_refl p, id, q, fun k h1 h2 => by omega⟩
theorem we_ge : p ≤ we B L p := (we_i _ p (Nat.le_refl _)).1
theorem we_le (h : p ≤ L) : we B L p ≤ L := (we_i _ p (Nat.le_refl _)).2.1 h
theorem we_no : ¬ LEa B L (we B L p) := (we_i _ p (Nat.le_refl _)).2.2.1
theorem we_in (h : p ≤ k) (h' : k < we B L p) : LEa B L k := (we_i _ p (Nat.le_refl _)).2.2.2 k h h'
theorem we_gt (h : LEa B L p) : p < we B L p := by
  rw [we_l h]
  have := @we_ge (p + 1) L B
  omega
theorem D_s {e : Option HE} {y : Nat} : (mD M y e).2.2.2.1 y = e := up_s _ _ _
theorem D_n {e : Option HE} {y z : Nat} (h : z ≠ y) : (mD M y e).2.2.2.1 z = M.2.2.2.1 z := by simp [mD, va_up, h]
theorem A_s {e : HE} : (mA M e n).2.2.2.1 M.2.2.2.2.1 = some e := up_s _ _ _
theorem A_n {e : HE} {z : Nat} (h : z ≠ M.2.2.2.2.1) : (mA M e n).2.2.2.1 z = M.2.2.2.1 z := by simp [mA, va_up, h]
theorem nA_o {t : Nat} (hy : ¬ inB a M.2.2.2.2.1) (h1 : M.2.2.2.2.1 + 1 ≤ K.2.2.1) (h2 : M.2.2.2.2.2 + n ≤ K.2.2.2) (hn : n ≤ 1600) : nA K (hp a M) t (.inl (fun _ => 0)) (nI n) = some (hp a (mA M (iA t n (fun _ => 0)) n)) := by
  unfold nA
  rw [if_neg, nI_clamp (by omega)]
  · exact d_alc hy h1 h2
  · rw [nI_lt0 (by omega), nI_clamp (by omega)]
    rintro (z | z)
    · exact z
    · omega
theorem word32 : ∀ (d p fu : Nat) (M : CM), L - p ≤ d → d < fu → RD M B L p → M.1 9 3 = nI q → q ≤ p → ¬ inB a M.2.2.2.2.1 → M.2.2.2.2.1 + 1 ≤ K.2.2.1 → M.2.2.2.2.2 + (we B L p - q) ≤ K.2.2.2 → fX2_word_32 K (a + 9) fu (hp a M) = fX2_word_76 K (a + 9) FU (hp a (mA (mI M 9 2 (nI (we B L p))) (iA 2 (we B L p - q) (fun _ => 0)) (we B L p - q))) (some M.2.2.2.2.1) (nI q) := by
  intro d
  have stop : ∀ (p fu : Nat) (M : CM), ¬ LEa B L p → RD M B L p → M.1 9 3 = nI q → q ≤ p → ¬ inB a M.2.2.2.2.1 → M.2.2.2.2.1 + 1 ≤ K.2.2.1 → M.2.2.2.2.2 + (we B L p - q) ≤ K.2.2.2 → fX2_word_32 K (a + 9) (fu + 1) (hp a M) = fX2_word_76 K (a + 9) FU (hp a (mA (mI M 9 2 (nI (we B L p))) (iA 2 (we B L p - q) (fun _ => 0)) (we B L p - q))) (some M.2.2.2.2.1) (nI q) := by
    intro p fu M z R e3 hq h1 h2 h3
    have hp' := R.2.2.1
    have hL := R.2.1
    rw [we_n z] at h3 ⊢
    rw [mI_id R.2.2.2.2]
    have e3' : (mA M (iA 2 (p - q) (fun _ => 0)) (p - q)).1 9 3 = nI q := e3
    simp only [fX2_word_32, r_g2, R.2.2.2.2, bsm, r_rcv, R.by (K := K) (a := a) (show p ≤ 1600 by omega), (ltI (K := K) (σ := (fun _ => 0, fun _ => 0, fun _ _ => 0, fun _ _ => 0)) (p := p) R.lt hL (hp a M)).1, if_neg z, if_true, r_g3, e3, nI_sub hq, nA_o h1 h2 h3 (show p - q ≤ 1600 by omega), e3']
    rfl
  induction d with
  | zero =>
    intro p fu M h1 h2 R
    obtain ⟨n, rfl⟩ : ∃ n, fu = n + 1 := ⟨fu - 1, by omega⟩
    exact stop p n M (by omega) R
  | succ d ih =>
    intro p fu M h1 h2 R e3 hq h4 h5 h6
    obtain ⟨n, rfl⟩ : ∃ n, fu = n + 1 := ⟨fu - 1, by omega⟩
    by_cases z : LEa B L p
    · have hp' := R.2.2.1
      have hL := R.2.1
      rw [we_l z] at h6 ⊢
      simp only [fX2_word_32, r_g2, R.2.2.2.2, bsm, r_rcv, R.by (K := K) (a := a) (show p ≤ 1600 by omega), (ltI (K := K) (σ := (fun _ => 0, fun _ => 0, fun _ _ => 0, fun _ _ => 0)) (p := p) R.lt hL (hp a M)).1, if_pos z, if_neg n01, nI_1, r_p2]
      rw [ih (p + 1) n _ (by omega) (by omega) (R.mv (by omega)) (by rw [mI_n (by omega)]; exact e3) (by omega) h4 h5 h6, mI_mI]
      rfl
    · exact stop p n M z R e3 hq h4 h5 h6
end PWD

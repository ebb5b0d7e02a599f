/-! PARSER, signs of the tape -/
set_option maxRecDepth 100000
/-- c: a blank, a letter, a digit -/
abbrev BL (c : Nat) : Prop := c = 32 ∨ c = 10
abbrev LE (c : Nat) : Prop := 97 ≤ c ∧ c ≤ 122
abbrev DI (c : Nat) : Prop := 48 ≤ c ∧ c ≤ 57
def skF (B : Nat → Nat) (L : Nat) : Nat → Nat → Nat
  | 0, p => p
  | n + 1, p => if p < L ∧ BL (B p) then skF B L n (p + 1) else p
/-- behind the blanks -/
def sk (B : Nat → Nat) (L p : Nat) : Nat := skF B L (L - p) p
def chI (B : Nat → Nat) (L p : Nat) : Int32 := if p < L then nI (B p) else -1
/-- a letter or a digit stands just before -/
abbrev PT (B : Nat → Nat) (p : Nat) : Prop := 0 < p ∧ (LE (B (p - 1)) ∨ DI (B (p - 1)))
abbrev LEa (B : Nat → Nat) (L p : Nat) : Prop := p < L ∧ LE (B p)
abbrev DIa (B : Nat → Nat) (L p : Nat) : Prop := p < L ∧ DI (B p)
/-- the end of a word, of a number -/
def weF (B : Nat → Nat) (L : Nat) : Nat → Nat → Nat
  | 0, p => p
  | n + 1, p => if LEa B L p then weF B L n (p + 1) else p
def we (B : Nat → Nat) (L p : Nat) : Nat := weF B L (L - p) p
section PLX
variable {K : KE} {a i n k p q L : Nat} {M M' : CM} {σ σ' : MS} {B : Nat → Nat}
theorem skF_b : ∀ (n p : Nat), L - p ≤ n → skF B L n p = if p < L ∧ BL (B p) then sk B L (p + 1) else p
  | 0, p, h => by rw [skF, if_neg (by omega)]
  | n + 1, p, h => by
    rw [skF]
    by_cases q : p < L ∧ BL (B p)
    · rw [if_pos q, if_pos q, sk]
      obtain ⟨m, hm⟩ : ∃ m, m = L - (p + 1) := ⟨_, rfl⟩
      rw [← hm]
      rw [skF_b n (p + 1) (by omega), skF_b m (p + 1) (by omega)]
    · rw [if_neg q, if_neg q]
theorem sk_e (p : Nat) : sk B L p = if p < L ∧ BL (B p) then sk B L (p + 1) else p := skF_b _ p (Nat.le_refl _)
theorem sk_b (h : p < L ∧ BL (B p)) : sk B L p = sk B L (p + 1) := by rw [sk_e, if_pos h]
theorem sk_n (h : ¬ (p < L ∧ BL (B p))) : sk B L p = p := by rw [sk_e, if_neg h]
theorem sk_i : ∀ (d p : Nat), L - p ≤ d → p ≤ sk B L p ∧ (p ≤ L → sk B L p ≤ L) ∧ ¬ (sk B L p < L ∧ BL (B (sk B L p))) ∧ (p < sk B L p → BL (B (sk B L p - 1)))
  | 0, p, h => by
    rw [sk_n (by omega)]
    exact ⟨Nat.le_refl p, id, by omega, by omega⟩
  | d + 1, p, h => by
    by_cases q : p < L ∧ BL (B p)
    · rw [sk_b q]
      obtain ⟨h1, h2, h3, h4⟩ := sk_i d (p + 1) (by omega)
      refine ⟨by omega, by omega, h3, fun _ => ?_⟩
      by_cases z : p + 1 < sk B L (p + 1)
      · exact h4 z
      · have : sk B L (p + 1) = p + 1 := by omega
        rw [this]
        exact q.2
    · rw [sk_n q]
      exact ⟨Nat.le_refl p, id, q, by omega⟩
theorem sk_ge : p ≤ sk B L p := (sk_i _ p (Nat.le_refl _)).1
theorem sk_le (h : p ≤ L) : sk B L p ≤ L := (sk_i _ p (Nat.le_refl _)).2.1 h
theorem sk_nb : ¬ (sk B L p < L ∧ BL (B (sk B L p))) := (sk_i _ p (Nat.le_refl _)).2.2.1
theorem sk_bf (h : p < sk B L p) : BL (B (sk B L p - 1)) := (sk_i _ p (Nat.le_refl _)).2.2.2 h
theorem sk_sk : sk B L (sk B L p) = sk B L p := sk_n sk_nb
theorem mI_id {v : Int32} {o : Nat} (h : M.1 o k = v) : mI M o k v = M := by
  have : va_up M.1 o (upd (M.1 o) k v) = M.1 := by
    funext o' j
    have e := @mI_1 o o' k j M v
    show (mI M o k v).1 o' j = _
    rw [e]
    by_cases z : o' = o ∧ j = k
    · rw [if_pos z, z.1, z.2, h]
    · rw [if_neg z]
  unfold mI
  rw [this]
theorem mI_mI {v w : Int32} {o : Nat} : mI (mI M o k v) o k w = mI M o k w := by
  have : (mI (mI M o k v) o k w).1 = (mI M o k w).1 := by
    funext o' j
    rw [mI_1, mI_1, mI_1]
    by_cases z : o' = o ∧ j = k
    · rw [if_pos z, if_pos z]
    · rw [if_neg z, if_neg z, if_neg z]
  exact Prod.ext this rfl
theorem sI_id {v : Int32} (h : σ.1 k = v) : sI σ k v = σ := by
  have : (sI σ k v).1 = σ.1 := by
    funext j
    rw [sI_1]
    by_cases z : j = k
    · rw [if_pos z, z, h]
    · rw [if_neg z]
  exact Prod.ext this rfl
theorem sI_sI {v w : Int32} : sI (sI σ k v) k w = sI σ k w := by
  have : (sI (sI σ k v) k w).1 = (sI σ k w).1 := by
    funext j
    rw [sI_1, sI_1, sI_1]
    by_cases z : j = k
    · rw [if_pos z, if_pos z]
    · rw [if_neg z, if_neg z, if_neg z]
  exact Prod.ext this rfl
/-- the tape's bytes, as they are kept -/
def BB (M : CM) (B : Nat → Nat) : Prop := BA M B ∧ ∀ k, k < 1600 → M.1 8 k = (nI (B k)).toInt8.toInt32
theorem BB.to (Z : BB M B) (e : M'.1 8 = M.1 8) : BB M' B := ⟨Z.1.to e, fun k hk => by rw [e]; exact Z.2 k hk⟩
theorem ZP.bb (Z : ZP M σ) : ∃ B, BB M B ∧ BT σ B := by
  obtain ⟨B, h1, h2⟩ := Z.bt
  refine ⟨B, ⟨h1, fun k hk => ?_⟩, h2⟩
  obtain ⟨c, c1, c2, c3⟩ := Z k hk
  obtain ⟨b1, b2⟩ := h2 k hk
  rw [c2, nI_eqE (by omega) (by omega)] at b2
  rw [c3, b2]
/-- the Reader at place p of a tape of L bytes -/
def RD (M : CM) (B : Nat → Nat) (L p : Nat) : Prop := BB M B ∧ L ≤ 1600 ∧ p ≤ L ∧ M.1 9 1 = nI L ∧ M.1 9 2 = nI p
/-- the twin at place p -/
def TD (σ : MS) (B : Nat → Nat) (L p : Nat) : Prop := BT σ B ∧ L ≤ 1600 ∧ p ≤ L ∧ σ.1 3 = nI L ∧ σ.1 2 = nI p
theorem RD.mv (R : RD M B L p) (h : q ≤ L) : RD (mI M 9 2 (nI q)) B L q := ⟨R.1.to (mI_o (by omega)), R.2.1, h, by rw [mI_n (by omega)]; exact R.2.2.2.1, mI_s⟩
theorem TD.mv (R : TD σ B L p) (h : q ≤ L) : TD (sI σ 2 (nI q)) B L q := ⟨R.1.to rfl, R.2.1, h, by rw [sI_n (by omega)]; exact R.2.2.2.1, sI_s⟩
theorem RD.by (R : RD M B L p) (h : q ≤ 1600) : fX2_byteAt K (hp a M) (a + 9) (nI q) = some (chI B L q) := by
  obtain ⟨Z, hL, hp', e1, e2⟩ := R
  simp only [fX2_byteAt, nI_lt0 (show q < 2 ^ 31 by omega), if_false, r_g1, e1, bsm, nI_leE (show L < 2 ^ 31 by omega) (show q < 2 ^ 31 by omega)]
  by_cases z : L ≤ q
  · rw [if_pos z, chI, if_neg (by omega)]
  · rw [if_neg z, chI, if_pos (by omega), r_g7, bsm, x_g1, bsm, c_tape (by omega), bsm, (Z.1 q (by omega)).2]
theorem ch_eq {c : Nat} (hB : ∀ k, k < 1600 → B k < 256) (hL : L ≤ 1600) (hc : c < 256) : (chI B L p = nI c) = (p < L ∧ B p = c) := by
  unfold chI
  by_cases z : p < L
  · have := hB p (by omega)
    rw [if_pos z, nI_eqE (by omega) (by omega)]
    exact propext ⟨fun h => ⟨z, h⟩, fun h => h.2⟩
  · rw [if_neg z]
    refine propext ⟨fun h => ?_, fun h => absurd h.1 z⟩
    have := nI_eqm (a := c) (by omega)
    rw [← h] at this
    simp at this
theorem RD.lt (R : RD M B L p) : ∀ k, k < 1600 → B k < 256 := fun k hk => (R.1.1 k hk).1
theorem TD.lt (R : TD σ B L p) : ∀ k, k < 1600 → B k < 256 := fun k hk => (R.1 k hk).1
/-- the component's look -/
theorem here_o : ∀ (d p fu : Nat) (M : CM), L - p ≤ d → d < fu → RD M B L p → fX2_here_0 K (a + 9) fu (hp a M) = some (hp a (mI M 9 2 (nI (sk B L p))), chI B L (sk B L p)) := by
  intro d
  induction d with
  | zero =>
    intro p fu M h1 h2 R
    obtain ⟨n, rfl⟩ : ∃ n, fu = n + 1 := ⟨fu - 1, by omega⟩
    have hp' := R.2.2.1
    have hL := R.2.1
    have e32 : (chI B L p = (32 : Int32)) = (p < L ∧ B p = 32) := ch_eq (c := 32) R.lt hL (by omega)
    have e10 : (chI B L p = (10 : Int32)) = (p < L ∧ B p = 10) := ch_eq (c := 10) R.lt hL (by omega)
    rw [sk_n (by omega), mI_id R.2.2.2.2]
    simp only [fX2_here_0, r_g2, R.2.2.2.2, bsm, r_rcv, R.by (K := K) (a := a) (show p ≤ 1600 by omega), e32, e10, if_neg (show ¬ (p < L ∧ B p = 32) by omega), if_neg (show ¬ (p < L ∧ B p = 10) by omega)]
  | succ d ih =>
    intro p fu M h1 h2 R
    obtain ⟨n, rfl⟩ : ∃ n, fu = n + 1 := ⟨fu - 1, by omega⟩
    have hp' := R.2.2.1
    have hL := R.2.1
    have e32 : (chI B L p = (32 : Int32)) = (p < L ∧ B p = 32) := ch_eq (c := 32) R.lt hL (by omega)
    have e10 : (chI B L p = (10 : Int32)) = (p < L ∧ B p = 10) := ch_eq (c := 10) R.lt hL (by omega)
    have nx : p < L → fX2_here_26 K (a + 9) (fun h' => fX2_here_0 K (a + 9) n h') (hp a M) = some (hp a (mI M 9 2 (nI (sk B L (p + 1)))), chI B L (sk B L (p + 1))) := fun hpl => by
      simp only [fX2_here_26, r_g2, R.2.2.2.2, bsm, nI_1, r_p2]
      rw [ih (p + 1) n _ (by omega) (by omega) (R.mv (by omega)), mI_mI]
    by_cases q : p < L ∧ BL (B p)
    · rw [sk_b q]
      simp only [fX2_here_0, r_g2, R.2.2.2.2, bsm, r_rcv, R.by (K := K) (a := a) (show p ≤ 1600 by omega), e32, e10, nx q.1]
      by_cases z : p < L ∧ B p = 32
      · rw [if_pos z]
      · rw [if_neg z, if_pos ⟨q.1, q.2.resolve_left (fun y => z ⟨q.1, y⟩)⟩]
    · rw [sk_n q, mI_id R.2.2.2.2]
      simp only [fX2_here_0, r_g2, R.2.2.2.2, bsm, r_rcv, R.by (K := K) (a := a) (show p ≤ 1600 by omega), e32, e10, if_neg (show ¬ (p < L ∧ B p = 32) from fun z => q ⟨z.1, Or.inl z.2⟩), if_neg (show ¬ (p < L ∧ B p = 10) from fun z => q ⟨z.1, Or.inr z.2⟩)]
theorem RD.here (R : RD M B L p) : fX2_here K (hp a M) (a + 9) = some (hp a (mI M 9 2 (nI (sk B L p))), chI B L (sk B L p)) := by
  have := R.2.1
  exact here_o (L - p) p FU M (Nat.le_refl _) (FU_lt (by omega)) R
theorem TD.at (R : TD σ B L p) (h : q < L) : aI σ 0 (nI q) = some (nI (B q)) := by
  have := R.2.1
  exact R.1.at (by omega)
theorem look_o : ∀ (d p fu : Nat) (σ : MS), L - p ≤ d → d < fu → TD σ B L p → fX6_look_0 fu σ = some (sI σ 2 (nI (sk B L p)), chI B L (sk B L p)) := by
  intro d
  induction d with
  | zero =>
    intro p fu σ h1 h2 R
    obtain ⟨n, rfl⟩ : ∃ n, fu = n + 1 := ⟨fu - 1, by omega⟩
    have hp' := R.2.2.1
    have hL := R.2.1
    have k1 : (nI L ≤ nI p) = (L ≤ p) := nI_leE (by omega) (by omega)
    rw [sk_n (by omega), sI_id R.2.2.2.2]
    simp only [fX6_look_0, R.2.2.2.1, R.2.2.2.2, k1, if_pos (show L ≤ p by omega), fX6_look_52, chI, if_neg (show ¬ p < L by omega)]
  | succ d ih =>
    intro p fu σ h1 h2 R
    obtain ⟨n, rfl⟩ : ∃ n, fu = n + 1 := ⟨fu - 1, by omega⟩
    have hp' := R.2.2.1
    have hL := R.2.1
    have k1 : (nI L ≤ nI p) = (L ≤ p) := nI_leE (by omega) (by omega)
    by_cases hpl : L ≤ p
    · rw [sk_n (by omega), sI_id R.2.2.2.2]
      simp only [fX6_look_0, R.2.2.2.1, R.2.2.2.2, k1, if_pos hpl, fX6_look_52, chI, if_neg (show ¬ p < L by omega)]
    · have hb := R.lt p (by omega)
      have k10 : (nI (B p) = (10 : Int32)) = (B p = 10) := nI_eqE (b := 10) (by omega) (by omega)
      have k32 : (nI (B p) = (32 : Int32)) = (B p = 32) := nI_eqE (b := 32) (by omega) (by omega)
      have nx : fX6_look_39 (fun σ' => fX6_look_0 n σ') σ = some (sI σ 2 (nI (sk B L (p + 1))), chI B L (sk B L (p + 1))) := by
        simp only [fX6_look_39, R.2.2.2.2, nI_1]
        rw [ih (p + 1) n _ (by omega) (by omega) (R.mv (by omega)), sI_sI]
      simp only [fX6_look_0, R.2.2.2.1, R.2.2.2.2, k1, if_neg hpl, R.at (show p < L by omega), bsm, k10, k32, nx, fX6_look_52]
      by_cases z : B p = 10
      · rw [if_pos z, sk_b ⟨by omega, Or.inr z⟩]
      · rw [if_neg z]
        by_cases z2 : B p = 32
        · rw [if_pos z2, sk_b ⟨by omega, Or.inl z2⟩]
        · rw [if_neg z2, sk_n (by omega), sI_id R.2.2.2.2, chI, if_pos (by omega)]
theorem TD.look (R : TD σ B L p) : fX6_look σ = some (sI σ 2 (nI (sk B L p)), chI B L (sk B L p)) := by
  have := R.2.1
  exact look_o (L - p) p FU σ (Nat.le_refl _) (FU_lt (by omega)) R
theorem lt_c {c : Nat} (hc : c < 256) (h : HS) : fX0_isLetter K h (nI c) = some (if LE c then 1 else 0) := by
  have k1 : (nI c < (97 : Int32)) = (c < 97) := nI_ltE (b := 97) (by omega) (by omega)
  have k2 : ((122 : Int32) < nI c) = (122 < c) := nI_ltE (a := 122) (by omega) (by omega)
  simp only [fX0_isLetter, k1, k2]
  by_cases z : c < 97
  · rw [if_pos z, if_neg (by omega)]
  · rw [if_neg z]
    by_cases z2 : 122 < c
    · rw [if_pos z2, if_neg (by omega)]
    · rw [if_neg z2, if_pos (by omega)]
theorem lt_t {c : Nat} (hc : c < 256) : fX6_isLetter σ (nI c) = some (if LE c then 1 else 0) := by
  have := lt_c (K := (fun _ => none, fun _ => none, 0, 0)) hc (fun _ => none, 0, 0)
  exact this
theorem dg_c {c : Nat} (hc : c < 256) (h : HS) : fX0_isDigit K h (nI c) = some (if DI c then 1 else 0) := by
  have k1 : (nI c < (48 : Int32)) = (c < 48) := nI_ltE (b := 48) (by omega) (by omega)
  have k2 : ((57 : Int32) < nI c) = (57 < c) := nI_ltE (a := 57) (by omega) (by omega)
  simp only [fX0_isDigit, k1, k2]
  by_cases z : c < 48
  · rw [if_pos z, if_neg (by omega)]
  · rw [if_neg z]
    by_cases z2 : 57 < c
    · rw [if_pos z2, if_neg (by omega)]
    · rw [if_neg z2, if_pos (by omega)]
theorem dg_t {c : Nat} (hc : c < 256) : fX6_isDigit σ (nI c) = some (if DI c then 1 else 0) := by
  have := dg_c (K := (fun _ => none, fun _ => none, 0, 0)) hc (fun _ => none, 0, 0)
  exact this
theorem ltI (hB : ∀ k, k < 1600 → B k < 256) (hL : L ≤ 1600) (h : HS) : fX0_isLetter K h (chI B L p) = some (if LEa B L p then 1 else 0) ∧ fX6_isLetter σ (chI B L p) = some (if LEa B L p then 1 else 0) ∧ fX0_isDigit K h (chI B L p) = some (if DIa B L p then 1 else 0) ∧ fX6_isDigit σ (chI B L p) = some (if DIa B L p then 1 else 0) := by
  unfold chI
  by_cases z : p < L
  · have hb := hB p (by omega)
    rw [if_pos z, lt_c hb, lt_t hb, dg_c hb, dg_t hb]
    simp only [LEa, DIa, z, true_and, and_self]
  · rw [if_neg z, if_neg (fun y => z y.1), if_neg (fun y => z y.1)]
    exact ⟨by unfold fX0_isLetter; rw [if_pos (by decide)], by unfold fX6_isLetter; rw [if_pos (by decide)], by unfold fX0_isDigit; rw [if_pos (by decide)], by unfold fX6_isDigit; rw [if_pos (by decide)]⟩
end PLX

/-! PLAIN LAW, what the house's sums and tests tell: both sides -/
set_option maxRecDepth 100000
def BD (v : Int64) : Prop := -1000000 ≤ v ∧ v ≤ 1000000
theorem l_le (x y : Int64) : (x ≤ y) = (x.toInt ≤ y.toInt) := propext Int64.le_iff_toInt_le
theorem l_lt (x y : Int64) : (x < y) = (x.toInt < y.toInt) := propext Int64.lt_iff_toInt_lt
theorem l_eq (x y : Int64) : (x = y) = (x.toInt = y.toInt) := propext ⟨fun h => by rw [h], fun h => Int64.toInt_inj.mp h⟩
theorem kM : (1000000 : Int64).toInt = 1000000 := by decide
theorem kMm : (-1000000 : Int64).toInt = -1000000 := by decide
theorem k9 : (999 : Int64).toInt = 999 := by decide
theorem k0l : (0 : Int64).toInt = 0 := by decide
theorem k1l : (1 : Int64).toInt = 1 := by decide
theorem clp_id {v : Int64} (h : BD v) : clp v = v := by
  unfold clp
  rw [if_pos h.2, if_pos h.1]
theorem clp_BD (v : Int64) : BD (clp v) := by
  unfold clp BD
  by_cases h1 : v ≤ 1000000
  · by_cases h2 : (-1000000 : Int64) ≤ v
    · rw [if_pos h1, if_pos h2]; exact ⟨h2, h1⟩
    · rw [if_pos h1, if_neg h2]; decide
  · rw [if_neg h1]; decide
theorem BD_n {n : Nat} (h : n ≤ 1000000) : BD (nI n).toInt64 := by
  unfold BD
  rw [l_le, l_le, kM, kMm, Int32.toInt_toInt64, nI_toInt (by omega)]
  omega
theorem held_o (K : KE) (h : HS) (v : Int64) : fX0_held K h v = some (clp v) := by
  unfold fX0_held fJ12_min_2 fJ12_max_2 clp
  by_cases h1 : v < 1000000
  · have h2 : v ≤ 1000000 := by rw [l_lt] at h1; rw [l_le]; omega
    rw [if_pos h1, bsm, if_pos h2]
    by_cases h3 : (-1000000 : Int64) < v
    · have h4 : (-1000000 : Int64) ≤ v := by rw [l_lt] at h3; rw [l_le]; omega
      rw [if_pos h3, bsm, if_pos h4]
    · rw [if_neg h3, bsm]
      by_cases h4 : (-1000000 : Int64) ≤ v
      · rw [if_pos h4]
        congr 1
        rw [l_lt] at h3; rw [l_le] at h4; rw [l_eq]; omega
      · rw [if_neg h4]
  · rw [if_neg h1, bsm, if_pos (by decide), bsm]
    by_cases h2 : v ≤ 1000000
    · have h4 : (-1000000 : Int64) ≤ v := by rw [l_lt, kM] at h1; rw [l_le, kMm]; omega
      rw [if_pos h2, if_pos h4]
      congr 1
      rw [l_lt] at h1; rw [l_le] at h2; rw [l_eq]; omega
    · rw [if_neg h2]
theorem l_of {v : Int64} {n : Nat} (h : v.toInt = n) (hn : n < 2 ^ 31) : v.toInt32 = nI n := by
  have e : v = lN n := by rw [l_eq, h, lN_toInt hn]
  rw [e, lN_i]
theorem cut_o (K : KE) (h : HS) (s : Nat) (σ : MS) (v : Int64) : ∃ n, n ≤ 999 ∧ fX5_cut K h s v = some (nI n) ∧ fX6_cut σ v = some (nI n) ∧ (v.toInt ≤ 0 → n = 0) ∧ (∀ m : Nat, v.toInt = m → m ≤ 999 → n = m) := by
  unfold fX5_cut fX6_cut fJ12_min_2 fJ12_max_2
  by_cases h0 : (0 : Int64) ≤ v
  · rw [if_pos h0]
    rw [l_le, k0l] at h0
    by_cases h1 : v ≤ 999
    · rw [if_pos h1]
      rw [l_le, k9] at h1
      refine ⟨v.toInt.toNat, by omega, ?_, ?_, by omega, by omega⟩
      · by_cases h2 : v < 999
        · rw [if_pos h2, bsm]
          by_cases h3 : (0 : Int64) < v
          · rw [if_pos h3, bsm, l_of (n := v.toInt.toNat) (by omega) (by omega)]
          · rw [if_neg h3, bsm]
            rw [l_lt, k0l] at h3
            have : v.toInt.toNat = 0 := by omega
            rw [this]
            rfl
        · rw [if_neg h2, bsm, if_pos (by decide), bsm]
          rw [l_lt, k9] at h2
          have : v.toInt.toNat = 999 := by omega
          rw [this]
          rfl
      · rw [l_of (n := v.toInt.toNat) (by omega) (by omega)]
    · rw [if_neg h1]
      rw [l_le, k9] at h1
      refine ⟨999, by omega, ?_, rfl, by omega, by omega⟩
      rw [if_neg (by rw [l_lt, k9]; omega), bsm, if_pos (by decide), bsm]
      rfl
  · rw [if_neg h0]
    rw [l_le, k0l] at h0
    refine ⟨0, by omega, ?_, rfl, by omega, by omega⟩
    rw [if_pos (by rw [l_lt, k9]; omega), bsm, if_neg (by rw [l_lt, k0l]; omega), bsm]
    rfl
noncomputable def lkd (K : KE) (a : Nat) (M : CM) (x : Int64) : Int64 := clp ((fX0_looked K (hp a M) a 0 x).getD 0)
def lkOK (K : KE) (a : Nat) (M : CM) (cs : List Nat) : Prop := (∀ c, c ∈ cs → ¬ (60 ≤ c ∧ c < 1000)) ∨ ∀ x, ∃ y, fX0_looked K (hp a M) a 0 x = some y
/-- a sum at r (its cells lie from lo on, below hi): it tells what its codes tell -/
def TrV (d : Nat) (K : KE) (a lo hi : Nat) (D : Nat → Option HE) (r : Nat) (cs : List Nat) : Prop := ∀ M : CM, (∀ y x, lo ≤ y → y < hi → D y = some x → M.2.2.2.1 y = some x) → ∀ ob, ob = 11 ∨ ob = 13 → lkOK K a M cs → ∃ v, vAt K (hp a M) d (some r) (some (a + ob)) = some v ∧ CV (fun j => clp (M.2.1 (ob + 1) j)) (lkd K a M) cs v ∧ BD v
/-- a test likewise -/
def TeV (d : Nat) (K : KE) (a lo hi : Nat) (D : Nat → Option HE) (r : Nat) (cs : List Nat) : Prop := ∀ M : CM, (∀ y x, lo ≤ y → y < hi → D y = some x → M.2.2.2.1 y = some x) → ∀ ob, ob = 11 ∨ ob = 13 → lkOK K a M cs → ∃ b : Nat, b < 2 ∧ vHo K (hp a M) d (some r) (some (a + ob)) = some (nI b) ∧ CV (fun j => clp (M.2.1 (ob + 1) j)) (lkd K a M) cs (lN b)
/-- a sum of the house that stands: none, or codes and what they tell -/
def HT (K : KE) (a : Nat) (D : Nat → Option HE) (σ : MS) (w : Nat) (al : Nat → Prop) (v : Option Nat) : Prop := (v = none ∧ σ.2.2.1 48 (3 + w) = -1) ∨ ∃ r cs lo hi, v = some r ∧ CdO σ w cs ∧ okc al cs ∧ TrV 64 K a lo hi D r cs
def HTt (K : KE) (a : Nat) (D : Nat → Option HE) (σ : MS) (w : Nat) (al : Nat → Prop) (v : Option Nat) : Prop := (v = none ∧ σ.2.2.1 48 (3 + w) = -1) ∨ ∃ r cs lo hi, v = some r ∧ CdO σ w cs ∧ okc al cs ∧ TeV 64 K a lo hi D r cs
def HTs (K : KE) (a : Nat) (D : Nat → Option HE) (σ : MS) (vl vf vm : Option Nat) : Prop := HT K a D σ 0 (fun j => j < 3) vl ∧ HT K a D σ 1 (fun j => j < 2) vf ∧ HTt K a D σ 2 (fun j => j = 0 ∨ 3 ≤ j ∧ j ≤ 5) vm
section PTR
variable {K : KE} {a w f n : Nat} {M M' : CM} {σ σ' : MS} {al : Nat → Prop} {cs : List Nat} {v vl vf vm : Option Nat} {D : Nat → Option HE}
theorem CdO.up (hw : w < 3) (u : UpS σ σ') (h : CdO σ w cs) : CdO σ' w cs := by
  obtain ⟨b, b1, b2, b3, b4⟩ := h
  obtain ⟨u1, u2, u3, u4, u5, u6, u7, u8, u9, u10⟩ := u
  exact ⟨b, b1, by rw [u8 w hw]; exact b2, by rw [u9 w hw]; exact b3, fun i hi => by rw [u10 _ (by omega)]; exact b4 i hi⟩
theorem HT.up (hw : w < 3) (u : UpS σ σ') (h : HT K a D σ w al v) : HT K a D σ' w al v := by
  rcases h with ⟨h1, h2⟩ | ⟨r, cs, lo, hi, h1, h2, h3, h4⟩
  · exact Or.inl ⟨h1, by rw [u.2.2.2.2.2.2.2.1 w hw]; exact h2⟩
  · exact Or.inr ⟨r, cs, lo, hi, h1, h2.up hw u, h3, h4⟩
theorem HTt.up (hw : w < 3) (u : UpS σ σ') (h : HTt K a D σ w al v) : HTt K a D σ' w al v := by
  rcases h with ⟨h1, h2⟩ | ⟨r, cs, lo, hi, h1, h2, h3, h4⟩
  · exact Or.inl ⟨h1, by rw [u.2.2.2.2.2.2.2.1 w hw]; exact h2⟩
  · exact Or.inr ⟨r, cs, lo, hi, h1, h2.up hw u, h3, h4⟩
theorem HTs.up (u : UpS σ σ') (h : HTs K a D σ vl vf vm) : HTs K a D σ' vl vf vm := ⟨h.1.up (by omega) u, h.2.1.up (by omega) u, h.2.2.up (by omega) u⟩
theorem okc_lk (h : okc al cs) : lkOK K a M cs := Or.inl fun c hc q => by
  obtain ⟨h1, h2⟩ := h c hc
  omega
/-- a sum of the house at a moment: both sides -/
theorem HT.tell {f : Nat} (hw : w < 3) (h : HT K a M.2.2.2.1 σ w al v) (hv : v ≠ none) (e : SameH M M') (hm : ∀ j, al j → j < 8 → BD (M'.2.1 12 j)) (hp' : ∀ σ', QF3 σ σ' → ∀ j, al j → j < 8 → fX6_qPartOf σ' (nI j) (nI f) = some (M'.2.1 12 j)) : ∃ x σ', vAt K (hp a M') 64 v (some (a + 11)) = some x ∧ fX6_codesTell σ (nI w) (nI f) = some (σ', x) ∧ QF3 σ σ' ∧ σ.2.2.1 48 (3 + w) ≠ -1 := by
  rcases h with ⟨h1, h2⟩ | ⟨r, cs, lo, hi, h1, h2, h3, h4⟩
  · exact absurd h1 hv
  · subst h1
    obtain ⟨x, e1, e2, e3⟩ := h4 M' (fun y x _ _ q => by rw [e.2]; exact q) 11 (Or.inl rfl) (okc_lk h3)
    obtain ⟨σ', e4, e5⟩ := codesTell_ok (f := f) hw h2 h3 e2 (fun σ' q j hj hj8 => by rw [hp' σ' q j hj hj8, clp_id (hm j hj hj8)])
    refine ⟨x, σ', e1, e4, e5, ?_⟩
    obtain ⟨b, b1, b2, -⟩ := h2
    rw [b2]
    intro q
    rw [nI_eqm (by omega)] at q
    exact q
theorem HTt.tell {f : Nat} (hw : w < 3) (h : HTt K a M.2.2.2.1 σ w al v) (hv : v ≠ none) (e : SameH M M') (hm : ∀ j, al j → j < 8 → BD (M'.2.1 12 j)) (hp' : ∀ σ', QF3 σ σ' → ∀ j, al j → j < 8 → fX6_qPartOf σ' (nI j) (nI f) = some (M'.2.1 12 j)) : ∃ b σ', b < 2 ∧ vHo K (hp a M') 64 v (some (a + 11)) = some (nI b) ∧ fX6_codesTell σ (nI w) (nI f) = some (σ', lN b) ∧ QF3 σ σ' ∧ σ.2.2.1 48 (3 + w) ≠ -1 := by
  rcases h with ⟨h1, h2⟩ | ⟨r, cs, lo, hi, h1, h2, h3, h4⟩
  · exact absurd h1 hv
  · subst h1
    obtain ⟨x, e0, e1, e2⟩ := h4 M' (fun y x _ _ q => by rw [e.2]; exact q) 11 (Or.inl rfl) (okc_lk h3)
    obtain ⟨σ', e4, e5⟩ := codesTell_ok (f := f) hw h2 h3 e2 (fun σ' q j hj hj8 => by rw [hp' σ' q j hj hj8, clp_id (hm j hj hj8)])
    refine ⟨x, σ', e0, e1, e4, e5, ?_⟩
    obtain ⟨b, b1, b2, -⟩ := h2
    rw [b2]
    intro q
    rw [nI_eqm (by omega)] at q
    exact q
end PTR

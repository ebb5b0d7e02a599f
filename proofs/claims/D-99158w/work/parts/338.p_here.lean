/-! PARSER, words and signs at the twin -/
set_option maxRecDepth 100000
/-- k is one of the twin's words -/
def isW (k : Nat) : Prop := 10 ≤ k ∧ k ≤ 38 ∨ 71 ≤ k ∧ k ≤ 90
theorem isW_l : ∀ k, k < 91 → (10 ≤ k ∧ k ≤ 38 ∨ 71 ≤ k ∧ k ≤ 90) → mTy k = 4 ∧ mLen k = (wdL k).length ∧ (wdL k).length ≤ 7 ∧ 0 < (wdL k).length := by decide +kernel
theorem isW_b : ∀ k, k < 91 → ∀ i, i < 7 → (wdL k).getD i 0 < 256 := by decide +kernel
/-- the twin's last word or number -/
def TL (σ : MS) (B : Nat → Nat) (p : Nat) : Prop := (σ.1 4 = -1 ∧ ¬ PT B p) ∨ ∃ l, l ≤ p ∧ σ.1 4 = nI l ∧ (l = p ↔ PT B p)
section PHE
variable {K : KE} {a i n k p q e L kw : Nat} {M M' : CM} {σ σ' : MS} {B : Nat → Nat}
theorem TL.lst (T : TL σ B p) (h : p ≤ L) (hL : L ≤ 1600) : (nI (sk B L p) = σ.1 4) = PT B (sk B L p) := by
  have h1 := @sk_ge p L B
  have h2 := @sk_le p L B h
  have h3 := @sk_bf p L B
  generalize sk B L p = q at *
  by_cases z : p = q
  · subst z
    rcases T with ⟨t1, t2⟩ | ⟨l, l1, l2, l3⟩
    · rw [t1, nI_eqm (by omega)]
      exact (eq_false t2).symm
    · rw [l2, nI_eqE (by omega) (by omega)]
      exact propext ⟨fun y => l3.mp y.symm, fun y => (l3.mpr y).symm⟩
  · have nb := h3 (by omega)
    have : ¬ PT B q := fun y => by
      have := y.2
      omega
    rw [eq_false this]
    rcases T with ⟨t1, t2⟩ | ⟨l, l1, l2, l3⟩
    · rw [t1, nI_eqm (by omega)]
    · rw [l2, nI_eqE (by omega) (by omega)]
      exact eq_false (by omega)
theorem TL.mv (T : TL σ B p) (h : p ≤ L) : TL (sI σ 2 (nI (sk B L p))) B (sk B L p) := by
  have h1 := @sk_ge p L B
  have h3 := @sk_bf p L B
  generalize sk B L p = q at *
  have e4 : (sI σ 2 (nI q)).1 4 = σ.1 4 := sI_n (by omega)
  by_cases z : p = q
  · subst z
    rcases T with ⟨t1, t2⟩ | ⟨l, l1, l2, l3⟩
    · exact Or.inl ⟨by rw [e4]; exact t1, t2⟩
    · exact Or.inr ⟨l, l1, by rw [e4]; exact l2, l3⟩
  · have nb := h3 (by omega)
    have np : ¬ PT B q := fun y => by
      have := y.2
      omega
    rcases T with ⟨t1, t2⟩ | ⟨l, l1, l2, l3⟩
    · exact Or.inl ⟨by rw [e4]; exact t1, np⟩
    · exact Or.inr ⟨l, by omega, by rw [e4]; exact l2, ⟨fun y => by omega, fun y => absurd y np⟩⟩
theorem here76 (R : TD σ B L q) (W : WD σ) (hw : isW kw) (hq : q + (wdL kw).length ≤ L) : ∃ r, fX6_isHere_76 FU σ kw 0 = some (σ, r) ∧ (r = 1 ∧ (∀ i, i < (wdL kw).length → B (q + i) = (wdL kw).getD i 0) ∨ r = 0 ∧ ¬ ∀ i, i < (wdL kw).length → B (q + i) = (wdL kw).getD i 0) := by
  have hL := R.2.1
  have hk : kw < 91 := by unfold isW at hw; omega
  obtain ⟨w1, w2, w3, w4⟩ := isW_l kw hk hw
  have aN' : aN kw = some (nI (wdL kw).length) := by
    unfold aN
    rw [if_pos (by rw [w1]; omega), w2]
  refine lp1z (F := fun m (_ : Unit) k => fX6_isHere_76 m σ kw k) (N := (wdL kw).length) (x := ()) (I := fun k _ => ∀ i, i < k → B (q + i) = (wdL kw).getD i 0) (P := fun o => ∃ r, o = some (σ, r) ∧ (r = 1 ∧ (∀ i, i < (wdL kw).length → B (q + i) = (wdL kw).getD i 0) ∨ r = 0 ∧ ¬ ∀ i, i < (wdL kw).length → B (q + i) = (wdL kw).getD i 0)) (by omega) (fun i hi => absurd hi (by omega)) ?_ ?_
  · intro m _ j hj hv
    have kk := nI_ge hj (show (wdL kw).length < 2 ^ 31 by omega)
    have e1 : aI σ 0 (nI q + nI j) = some (nI (B (q + j))) := by rw [nI_add]; exact R.at (by omega)
    have e2 : aC σ kw (nI j) = some (nI ((wdL kw).getD j 0)) := by rw [aC_o (n := (wdL kw).length) w1 w2 hj (by omega), W kw j hj]
    have b1 := R.lt (q + j) (by omega)
    have b2 := isW_b kw hk j (by omega)
    have e3 : (nI (B (q + j)) = nI ((wdL kw).getD j 0)) = (B (q + j) = (wdL kw).getD j 0) := nI_eqE (by omega) (by omega)
    by_cases z : B (q + j) = (wdL kw).getD j 0
    · refine Or.inl ⟨(), fun i hi => ?_, ?_⟩
      · by_cases e : i = j
        · subst e; exact z
        · exact hv i (by omega)
      · simp only [fX6_isHere_76, aN', bsm, if_neg kk, R.2.2.2.2, e1, e2, e3, if_pos z, nI_1]
    · refine Or.inr ⟨0, ?_, Or.inr ⟨rfl, fun y => z (y j hj)⟩⟩
      simp only [fX6_isHere_76, aN', bsm, if_neg kk, R.2.2.2.2, e1, e2, e3, if_neg z]
  · intro m _ hv
    have kk := nI_le (Nat.le_refl (wdL kw).length) (show (wdL kw).length < 2 ^ 31 by omega)
    exact ⟨1, by simp only [fX6_isHere_76, aN', bsm, if_pos kk], Or.inl ⟨rfl, hv⟩⟩
theorem here35 (R : TD σ B L q) : ∀ (d k fu : Nat), L - k ≤ d → d < fu → k ≤ L → fX6_isHere_35 fu σ kw (nI k) = fX6_isHere_61 σ kw (nI (we B L k)) := by
  have hL := R.2.1
  have stop : ∀ k fu, ¬ LEa B L k → k ≤ L → fX6_isHere_35 (fu + 1) σ kw (nI k) = fX6_isHere_61 σ kw (nI (we B L k)) := by
    intro k fu z hk
    rw [we_n z]
    simp only [fX6_isHere_35, R.2.2.2.1, nI_leE (show L < 2 ^ 31 by omega) (show k < 2 ^ 31 by omega)]
    by_cases y : L ≤ k
    · rw [if_pos y]
    · have hb := R.lt k (by omega)
      rw [if_neg y, R.at (by omega), bsm, lt_t hb, bsm, if_neg (fun x => z ⟨by omega, x⟩), if_pos rfl]
  intro d
  induction d with
  | zero =>
    intro k fu h1 h2 h3
    obtain ⟨n, rfl⟩ : ∃ n, fu = n + 1 := ⟨fu - 1, by omega⟩
    exact stop k n (by omega) h3
  | succ d ih =>
    intro k fu h1 h2 h3
    obtain ⟨n, rfl⟩ : ∃ n, fu = n + 1 := ⟨fu - 1, by omega⟩
    by_cases z : LEa B L k
    · have hb := R.lt k (by omega)
      rw [we_l z, ← ih (k + 1) n (by omega) (by omega) (by omega)]
      simp only [fX6_isHere_35, R.2.2.2.1, nI_leE (show L < 2 ^ 31 by omega) (show k < 2 ^ 31 by omega), if_neg (show ¬ L ≤ k by omega), R.at (show k < L by omega), bsm, lt_t hb, if_pos z.2, if_neg n01, nI_1]
    · exact stop k n z h3
/-- does this word stand here? -/
abbrev HW (B : Nat → Nat) (L q : Nat) (w : List Nat) : Prop := (LEa B L q ∧ ¬ PT B q) ∧ WQ B q (we B L q) w
theorem isHere_o (R : TD σ B L p) (T : TL σ B p) (W : WD σ) (hw : isW kw) (h5 : σ.1 5 = 0) : fX6_isHere σ kw = some (sI σ 2 (nI (sk B L p)), if HW B L (sk B L p) (wdL kw) then 1 else 0) := by
  have hL := R.2.1
  have hp' := R.2.2.1
  have ts := T.lst hp' hL
  have ql := @sk_le p L B hp'
  have R1 := R.mv ql
  have lk := R.look
  generalize sk B L p = q at *
  have hk : kw < 91 := by unfold isW at hw; omega
  obtain ⟨w1, w2, w3, w4⟩ := isW_l kw hk hw
  have aN' : aN kw = some (nI (wdL kw).length) := by
    unfold aN
    rw [if_pos (by rw [w1]; omega), w2]
  have l1 := (ltI (K := (fun _ => none, fun _ => none, 0, 0)) (σ := sI σ 2 (nI q)) (p := q) R.lt hL (fun _ => none, 0, 0)).2.1
  have e4 : (sI σ 2 (nI q)).1 4 = σ.1 4 := sI_n (by omega)
  have e2 : (sI σ 2 (nI q)).1 2 = nI q := sI_s
  simp only [fX6_isHere, h5, if_true, lk, bsm, l1, e2, e4, ts]
  by_cases z : LEa B L q
  rotate_left
  · rw [if_neg z, if_pos rfl, if_neg (fun y : HW B L q (wdL kw) => z y.1.1)]
  rw [if_pos z, if_neg n01]
  by_cases z2 : PT B q
  · rw [if_pos z2, if_neg (fun y : HW B L q (wdL kw) => y.1.2 z2)]
  rw [if_neg z2, here35 R1 (L - q) q FU (Nat.le_refl _) (FU_lt (by omega)) ql]
  have g1 := @we_ge q L B
  have g2 := @we_le q L B ql
  have es : nI (we B L q) - nI q = nI (we B L q - q) := nI_sub g1
  have ke : (nI (we B L q - q) = nI (wdL kw).length) = (we B L q - q = (wdL kw).length) := nI_eqE (by omega) (by omega)
  simp only [fX6_isHere_61, aN', bsm, e2, es, ke]
  by_cases z3 : we B L q - q = (wdL kw).length
  · rw [if_pos z3]
    obtain ⟨r, r1, r2⟩ := here76 R1 (W.to (fun _ _ => rfl)) hw (by omega)
    rw [r1]
    rcases r2 with ⟨rfl, r2⟩ | ⟨rfl, r2⟩
    · rw [if_pos (show HW B L q (wdL kw) from ⟨⟨z, z2⟩, z3, r2⟩)]
    · rw [if_neg (fun y : HW B L q (wdL kw) => r2 y.2.2)]
  · rw [if_neg z3, if_neg (fun y : HW B L q (wdL kw) => z3 y.2.1)]
end PHE

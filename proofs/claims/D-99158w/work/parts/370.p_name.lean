/-! HOUSE, names -/
set_option maxRecDepth 100000
def ownL : List (List Nat) := [wdL 10, wdL 11, wdL 12, wdL 13, wdL 14, wdL 15, wdL 16, wdL 17, wdL 18, wdL 19, wdL 20, wdL 21, wdL 22, wdL 23, wdL 24, wdL 25, wdL 26, wdL 27, wdL 28, wdL 29, wdL 30, wdL 31, wdL 32, wdL 33, wdL 34, wdL 35, wdL 36, wdL 37, wdL 38]
/-- a name from p on: (kind, place) of what is wrong, or where it ends -/
def nmP (B : Nat → Nat) (L p : Nat) : (Nat × Nat) ⊕ Nat :=
  if LEa B L (sk B L p) ∧ ¬ PT B (sk B L p) then
    (match fd B (sk B L p) (we B L (sk B L p)) ownL with
    | some _ => .inl (1, sk B L p)
    | none => if 6 < we B L (sk B L p) - sk B L p then .inl (1, sk B L p + 6) else .inr (we B L (sk B L p)))
  else .inl (1, sk B L p)
def ow {α : Type} (B : Nat → Nat) (q e : Nat) (y n : α) : List (List Nat) → α
  | [] => n
  | w :: l => if WQ B q e w then y else ow B q e y n l
section PNM
variable {K : KE} {a i n k p q e L m d w : Nat} {M M' M1 M2 : CM} {B : Nat → Nat} {σ σ' σ0 : MS} {α : Type} {y z : α}
theorem fdF_none {l : List (List Nat)} : ∀ d j, fdF B q e l d j = none ↔ ∀ i, j ≤ i → i < j + d → ¬ WQ B q e (l.getD i [])
  | 0, j => ⟨fun _ i h1 h2 => absurd h2 (by omega), fun _ => rfl⟩
  | d + 1, j => by
    unfold fdF
    by_cases x : WQ B q e (l.getD j [])
    · rw [if_pos x]
      exact ⟨fun h => (by cases h), fun h => absurd x (h j (Nat.le_refl _) (by omega))⟩
    · rw [if_neg x, fdF_none d (j + 1)]
      refine ⟨fun h i h1 h2 => ?_, fun h i h1 h2 => h i (by omega) (by omega)⟩
      by_cases g : i = j
      · subst g; exact x
      · exact h i (by omega) (by omega)
theorem ow_n : ∀ {l : List (List Nat)}, (∀ i, i < l.length → ¬ WQ B q e (l.getD i [])) → ow B q e y z l = z
  | [], _ => rfl
  | w :: l, h => by
    unfold ow
    have h0 : ¬ WQ B q e w := h 0 (by simp)
    rw [if_neg h0]
    exact ow_n (fun i hi => by
      have := h (i + 1) (by simp; omega)
      simpa using this)
theorem ow_y : ∀ {l : List (List Nat)}, (¬ ∀ i, i < l.length → ¬ WQ B q e (l.getD i [])) → ow B q e y z l = y
  | [], h => absurd (fun i hi => absurd hi (by simp)) h
  | w :: l, h => by
    unfold ow
    by_cases x : WQ B q e w
    · rw [if_pos x]
    · rw [if_neg x]
      refine ow_y (fun g => h (fun i hi => ?_))
      cases i with
      | zero => exact x
      | succ i =>
        have := g i (by simp at hi; omega)
        simpa using this
theorem ow_fd (l : List (List Nat)) : ow B q e y z l = match fd B q e l with | none => z | some _ => y := by
  have k := fdF_none (B := B) (q := q) (e := e) (l := l) l.length 0
  cases h : fd B q e l with
  | none => exact ow_n (fun i hi => k.mp h i (by omega) (by omega))
  | some w =>
    refine ow_y (fun g => ?_)
    have := k.mpr (fun i _ hi => g i (by omega))
    have h' : fdF B q e l l.length 0 = some w := h
    rw [this] at h'
    cases h'
theorem ite01 {c : Prop} [Decidable c] : ((if c then (1 : Int32) else 0) = 0) = ¬ c := by
  by_cases h : c
  · rw [if_pos h]
    exact propext ⟨fun q => absurd q (by decide), fun q => absurd h q⟩
  · rw [if_neg h]
    exact propext ⟨fun _ => h, fun _ => rfl⟩
/-- is it one of the program's own words? -/
theorem ownT (R : TD σ B L q) (T : TL σ B q) (W : WD σ) (h5 : σ.1 5 = 0) (hs : sk B L q = q) (hq : LEa B L q ∧ ¬ PT B q) : fX6_isOwnHere σ = some (σ, match fd B q (we B L q) ownL with | none => 0 | some _ => 1) := by
  have H : ∀ k, 10 ≤ k ∧ k ≤ 38 → fX6_isHere σ k = some (σ, if WQ B q (we B L q) (wdL k) then 1 else 0) := fun k hk => by
    have h := isHere_o (kw := k) R T W (by unfold isW; omega) h5
    rw [hs, sI_id R.2.2.2.2] at h
    rw [h]
    by_cases x : WQ B q (we B L q) (wdL k)
    · rw [if_pos x, if_pos (show HW B L q (wdL k) from ⟨hq, x⟩)]
    · rw [if_neg x, if_neg (fun z : HW B L q (wdL k) => x z.2)]
  have z1 : zr (1 : Int32) = some 1 := rfl
  have z0 : zr (0 : Int32) = some 0 := rfl
  have key : fX6_isOwnHere σ = ow B q (we B L q) (some (σ, (1 : Int32))) (some (σ, (0 : Int32))) ownL := by
    simp only [fX6_isOwnHere, fX6_isOwnHere_66, fX6_isOwnHere_71, fX6_isOwnHere_142, fX6_isOwnHere_147, fX6_isOwnHere_218, fX6_isOwnHere_223, fX6_isOwnHere_294, fX6_isOwnHere_299, fX6_isOwnHere_359, fX6_isOwnHere_364, H 10 (by omega), H 11 (by omega), H 12 (by omega), H 13 (by omega), H 14 (by omega), H 15 (by omega), H 16 (by omega), H 17 (by omega), H 18 (by omega), H 19 (by omega), H 20 (by omega), H 21 (by omega), H 22 (by omega), H 23 (by omega), H 24 (by omega), H 25 (by omega), H 26 (by omega), H 27 (by omega), H 28 (by omega), H 29 (by omega), H 30 (by omega), H 31 (by omega), H 32 (by omega), H 33 (by omega), H 34 (by omega), H 35 (by omega), H 36 (by omega), H 37 (by omega), H 38 (by omega), bsm, ite01, ite_not, if_true, if_neg n01, z1, z0]
    rfl
  rw [key, ow_fd]
  cases fd B q (we B L q) ownL <;> rfl
theorem sh0 (h : n < 2 ^ 31) : nI n >>> ((0 : Int32) &&& 31) = nI n := by
  rw [pk_shrN h _ 0 (by decide)]
  simp
theorem len_o (S : StO a M.2.2.2.1 B q e w) (he : e - q ≤ 1600) : fJ6_length K (hp a M) w = some (nI (e - q)) := by
  obtain ⟨h1, va, f, hs, hz, h2, h3, h4, h5⟩ := S
  have g1 : gR K (hp a M) (some w) 20 0 = some (some va) := d_gR (x := some va) h1 h3 rfl
  have g2 : gI K (hp a M) (some w) 20 1 = some 0 := d_gI h1 h3 rfl
  have g3 : cN K (hp a M) (some va) 3 = some (nI (e - q)) := k_cN (d_rd h2 h4)
  have b0 : br (0 : Int32) = some 0 := rfl
  simp only [fJ6_length, g1, g3, bsm, d_rcv (K := K) h1 h3, fJ6_coder, if_neg n01, g2, b0, sh0 (show e - q < 2 ^ 31 by omega)]
/-- a name at the component -/
theorem nameC (Co : CA K a 3 ownL) (R : RD M B L p) (hz : a + 1352 ≤ szM M) (hN : ∀ y, y < a → M.2.2.2.1 y = none) (r1 : szM M + 3 ≤ K.2.2.1) (r2 : slM M + 4 + 2 * wn B L p ≤ K.2.2.2) :
    match nmP B L p with
    | .inl e => ∃ M', fX2_name K (hp a M) (a + 9) = some (hp a M', .inl (a + 10)) ∧ EX (szM M) M M' ∧ (M'.1 10 6 = nI e.1 ∧ M'.1 10 7 = nI e.2) ∧ szM M' ≤ szM M + 3 ∧ slM M' ≤ slM M + 4 + 2 * wn B L p
    | .inr e => ∃ M', fX2_name K (hp a M) (a + 9) = some (hp a M', .inr (some (szM M + 1))) ∧ EX (szM M) M M' ∧ RD M' B L e ∧ StO a M'.2.2.2.1 B (sk B L p) e (szM M + 1) ∧ M'.1 9 3 = nI (sk B L p) ∧ (∀ k, k ≠ 2 → k ≠ 3 → M'.1 9 k = M.1 9 k) ∧ szM M' = szM M + 3 ∧ slM M' = slM M + 4 + 2 * (e - sk B L p) ∧ (sk B L p < e ∧ e ≤ sk B L p + 6) := by
  have hL := R.2.1
  have wpe := wn_e (B := B) (L := L) (p := p)
  have ql := @sk_le p L B R.2.2.1
  have wl := @we_le (sk B L p) L B ql
  have wo := word_o (K := K) (a := a) R hz r1 (by show slM M + 4 + 2 * (we B L (sk B L p) - sk B L p) ≤ _; omega)
  unfold nmP
  generalize sk B L p = q at *
  by_cases z3 : LEa B L q ∧ ¬ PT B q
  rotate_left
  · rw [if_neg z3]
    rcases wo with ⟨-, M', o2, o3, o4, o5, o6⟩ | ⟨o1, -⟩
    · have s' : szM M' = szM M := by rw [show szM M' = M'.2.2.2.2.1 from rfl, o3]
      have t' : slM M' = slM M := by rw [show slM M' = M'.2.2.2.2.2 from rfl, o3]
      refine ⟨M', ?_, o4, ⟨o5, o6⟩, by omega, by omega⟩
      simp only [fX2_name, r_rcv, bsm, o2, tb]
    · exact absurd o1 z3
  rw [if_pos z3]
  rcases wo with ⟨o1, -⟩ | ⟨-, M2, o2, o3, o4, o5, o6, o7, o8, o9⟩
  · exact absurd o1 (fun h => h.elim (fun h => h z3.1) (fun h => z3.2 h))
  have hg := we_gt z3.1
  have hN2 := o3.no (by show a ≤ szM M; omega) hN
  have fi := find_o (K := K) o9 Co hN2 R.lt (show we B L q ≤ 1600 by omega)
  have ln := len_o (K := K) (a := a) o9 (by omega)
  have rc : rcv K (hp a M2) (some (szM M + 1)) 20 = some (szM M + 1) := by
    obtain ⟨h1, va, f, hs, hz, h2, h3, h4, h5⟩ := o9
    exact d_rcv h1 h3
  have s2 : szM M2 = szM M + 3 := o7
  have t2 : slM M2 = slM M + 4 + 2 * (we B L q - q) := o8
  have ln' : fJ6_length K (hp a M2) (szM M + 1) = some (nI (we B L q - q)) := ln
  have fi' : fX0_find K (hp a M2) (some (szM M + 1)) (K.2.1 3) = some (oI (fd B q (we B L q) ownL)) := fi
  have o2' : fX2_word K (hp a M) (a + 9) = some (hp a M2, .inr (some (szM M + 1))) := o2
  have sw : ∀ x y, szM (wr M2 x y) = szM M2 := fun _ _ => rfl
  have tw : ∀ x y, slM (wr M2 x y) = slM M2 := fun _ _ => rfl
  have we6 : ∀ x y, (wr M2 x y).1 10 6 = x ∧ (wr M2 x y).1 10 7 = y := fun x y => ⟨by rw [wr, mI_n (by omega)]; exact mI_s, mI_s⟩
  cases hfd : fd B q (we B L q) ownL with
  | some j =>
    have hj : j < 29 := (fd_s hfd).1
    have nm1 : ¬ oI (some j) = (-1 : Int32) := by
      show ¬ nI j = (-1 : Int32)
      rw [nI_eqm (by omega)]; exact id
    rw [hfd] at fi'
    refine ⟨wr M2 1 (nI q), ?_, o3.wr, we6 _ _, by rw [sw]; omega, by rw [tw]; omega⟩
    simp only [fX2_name, r_rcv, bsm, o2', tb, fi', if_neg nm1, r_g3, o5, wrong_o, f_rcv]
  | none =>
    have nm1 : oI none = (-1 : Int32) := rfl
    rw [hfd] at fi'
    have k6 : (nI (we B L q - q) ≤ (6 : Int32)) = (we B L q - q ≤ 6) := nI_leE (b := 6) (by omega) (by omega)
    show (match (if 6 < we B L q - q then (.inl (1, q + 6) : (Nat × Nat) ⊕ Nat) else .inr (we B L q)) with | .inl e => _ | .inr e => _)
    by_cases g : 6 < we B L q - q
    · rw [if_pos g]
      have e6 : nI q + (6 : Int32) = nI (q + 6) := nI_add q 6
      refine ⟨wr M2 1 (nI (q + 6)), ?_, o3.wr, we6 _ _, by rw [sw]; omega, by rw [tw]; omega⟩
      simp only [fX2_name, r_rcv, bsm, o2', tb, fi', if_pos nm1, rc, ln', k6, if_neg (show ¬ we B L q - q ≤ 6 by omega), r_g3, o5, e6, wrong_o, f_rcv]
    · rw [if_neg g]
      refine ⟨M2, ?_, o3, o4, o9, o5, o6, s2, t2, hg, by omega⟩
      simp only [fX2_name, r_rcv, bsm, o2', tb, fi', if_pos nm1, rc, ln', k6, if_pos (show we B L q - q ≤ 6 by omega)]
/-- the letters of a name, at the twin -/
theorem name58 (R : TD σ B L q) (h5 : σ.1 5 = 0) (h39 : σ.1 39 = nI q) : ∀ (d i fu : Nat) (σ1 : MS), i + d = 6 → d < fu → q + i ≤ L → TF5 σ σ1 → σ1.1 5 = 0 → σ1.1 6 = σ.1 6 → σ1.1 39 = nI q → σ1.1 2 = nI (q + i) → (∀ j, j < i → LEa B L (q + j)) →
    (we B L q - q ≤ 6 ∧ ∃ σ', fX6_name_58 fu σ1 (b27 (fun j => nI (B (q + j))) i) = some (σ', b27 (fun j => nI (B (q + j))) (we B L q - q)) ∧ TF5 σ σ' ∧ σ'.1 5 = 0 ∧ σ'.1 6 = σ.1 6 ∧ σ'.1 39 = nI q ∧ σ'.1 2 = nI (we B L q) ∧ σ'.1 4 = nI (we B L q)) ∨
    (6 < we B L q - q ∧ ∃ σ', fX6_name_58 fu σ1 (b27 (fun j => nI (B (q + j))) i) = some (σ', 0) ∧ TF5 σ σ' ∧ σ'.1 5 = 1 ∧ σ'.1 6 = nI (q + 6)) := by
  have hL := R.2.1
  have weq : ∀ i, (∀ j, j < i → LEa B L (q + j)) → we B L q = we B L (q + i) := by
    intro i
    induction i with
    | zero => exact fun _ => rfl
    | succ i ih => exact fun h => by rw [ih (fun j hj => h j (by omega)), we_l (h i (by omega))]; rfl
  have stop : ∀ (i n : Nat) (σ1 : MS), i ≤ 6 → q + i ≤ L → TF5 σ σ1 → σ1.1 5 = 0 → σ1.1 6 = σ.1 6 → σ1.1 39 = nI q → σ1.1 2 = nI (q + i) → (∀ j, j < i → LEa B L (q + j)) → ¬ LEa B L (q + i) → (we B L q - q ≤ 6 ∧ ∃ σ', fX6_name_58 (n + 1) σ1 (b27 (fun j => nI (B (q + j))) i) = some (σ', b27 (fun j => nI (B (q + j))) (we B L q - q)) ∧ TF5 σ σ' ∧ σ'.1 5 = 0 ∧ σ'.1 6 = σ.1 6 ∧ σ'.1 39 = nI q ∧ σ'.1 2 = nI (we B L q) ∧ σ'.1 4 = nI (we B L q)) := by
    intro i n σ1 hi hq F f5 f6 f39 f2 hl z
    have e0 := weq i hl
    rw [we_n z] at e0
    have e1 : we B L q - q = i := by omega
    have f3 : σ1.1 3 = nI L := by rw [F.2 3 (by omega) (by omega) (by omega) (by omega) (by omega)]; exact R.2.2.2.1
    have a0 : q + i < L → aI σ1 0 (nI (q + i)) = some (nI (B (q + i))) := fun h => by
      have := R.at h
      unfold aI at this ⊢
      rw [F.1]
      exact this
    refine ⟨by omega, sI σ1 4 (nI (q + i)), ?_, F.set _ (by omega), by rw [sI_n (by omega)]; exact f5, by rw [sI_n (by omega)]; exact f6, by rw [sI_n (by omega)]; exact f39, by rw [sI_n (by omega), e0]; exact f2, by rw [sI_s, e0]⟩
    rw [e1]
    simp only [fX6_name_58, f3, f2, nI_leE (show L < 2 ^ 31 by omega) (show q + i < 2 ^ 31 by omega), fX6_name_145]
    by_cases y : L ≤ q + i
    · rw [if_pos y]
    · have hb := R.lt (q + i) (by omega)
      rw [if_neg y, a0 (by omega), bsm, lt_t hb, bsm, if_neg (fun x => z ⟨by omega, x⟩), if_pos rfl]
  intro d
  induction d with
  | zero =>
    intro i fu σ1 hi hf hq F f5 f6 f39 f2 hl
    obtain ⟨n, rfl⟩ : ∃ n, fu = n + 1 := ⟨fu - 1, by omega⟩
    obtain rfl : i = 6 := by omega
    by_cases z : LEa B L (q + 6)
    · have f3 : σ1.1 3 = nI L := by rw [F.2 3 (by omega) (by omega) (by omega) (by omega) (by omega)]; exact R.2.2.2.1
      have a0 : aI σ1 0 (nI (q + 6)) = some (nI (B (q + 6))) := by
        have := R.at z.1
        unfold aI at this ⊢
        rw [F.1]
        exact this
      have hb := R.lt (q + 6) (by have := z.1; omega)
      have g := we_gt z
      have e0 := weq 6 hl
      have e6 : nI (q + 6) - nI q = (6 : Int32) := by
        rw [nI_sub (by omega), Nat.add_sub_cancel_left]
        rfl
      refine Or.inr ⟨by omega, sI (sI σ1 5 1) 6 (nI (q + 6)), ?_, (F.set _ (by omega)).set _ (by omega), by rw [sI_n (by omega)]; exact sI_s, sI_s⟩
      have zz := z.1
      simp only [fX6_name_58, f3, f2, f39, nI_leE (show L < 2 ^ 31 by omega) (show q + 6 < 2 ^ 31 by omega), if_neg (show ¬ L ≤ q + 6 by omega), a0, bsm, lt_t hb, if_pos z.2, if_neg n01, e6, if_true, fail_o f5]
    · exact Or.inl (stop 6 n σ1 (by omega) hq F f5 f6 f39 f2 hl z)
  | succ d ih =>
    intro i fu σ1 hi hf hq F f5 f6 f39 f2 hl
    obtain ⟨n, rfl⟩ : ∃ n, fu = n + 1 := ⟨fu - 1, by omega⟩
    by_cases z : LEa B L (q + i)
    · have f3 : σ1.1 3 = nI L := by rw [F.2 3 (by omega) (by omega) (by omega) (by omega) (by omega)]; exact R.2.2.2.1
      have zz := z.1
      have a0 : aI σ1 0 (nI (q + i)) = some (nI (B (q + i))) := by
        have := R.at z.1
        unfold aI at this ⊢
        rw [F.1]
        exact this
      have hb := R.lt (q + i) (by omega)
      have e6 : ¬ nI (q + i) - nI q = (6 : Int32) := by
        rw [nI_sub (by omega), Nat.add_sub_cancel_left, show (6 : Int32) = nI 6 from rfl, nI_eqE (by omega) (by omega)]
        omega
      have nx : fX6_name_58 (n + 1) σ1 (b27 (fun j => nI (B (q + j))) i) = fX6_name_58 n (sI σ1 2 (nI (q + (i + 1)))) (b27 (fun j => nI (B (q + j))) (i + 1)) := by
        simp only [fX6_name_58, f3, f2, f39, nI_leE (show L < 2 ^ 31 by omega) (show q + i < 2 ^ 31 by omega), if_neg (show ¬ L ≤ q + i by omega), a0, bsm, lt_t hb, if_pos z.2, if_neg n01, if_neg e6, nI_1, b27]
        rfl
      rw [nx]
      refine ih (i + 1) n _ (by omega) (by omega) (by omega) (F.set _ (by omega)) (by rw [sI_n (by omega)]; exact f5) (by rw [sI_n (by omega)]; exact f6) (by rw [sI_n (by omega)]; exact f39) sI_s (fun j hj => ?_)
      by_cases g : j = i
      · subst g; exact z
      · exact hl j (by omega)
    · exact Or.inl (stop i n σ1 (by omega) hq F f5 f6 f39 f2 hl z)
/-- a name at the twin -/
theorem nameT (R : TD σ B L p) (T : TL σ B p) (W : WD σ) (h5 : σ.1 5 = 0) :
    match nmP B L p with
    | .inl e => ∃ σ', fX6_name σ = some (σ', 0) ∧ TF5 σ σ' ∧ σ'.1 5 = nI e.1 ∧ σ'.1 6 = nI e.2 ∧ e.1 = 1
    | .inr e => ∃ σ', fX6_name σ = some (σ', b27 (fun j => nI (B (sk B L p + j))) (e - sk B L p)) ∧ TF5 σ σ' ∧ σ'.1 5 = 0 ∧ σ'.1 6 = σ.1 6 ∧ σ'.1 39 = nI (sk B L p) ∧ TD σ' B L e ∧ TL σ' B e ∧ e = we B L (sk B L p) := by
  have hL := R.2.1
  have hp' := R.2.2.1
  have ts := T.lst hp' hL
  have ql := @sk_le p L B hp'
  have R1 := R.mv ql
  have T1 := T.mv hp'
  have lk := R.look
  have ss := @sk_sk p L B
  unfold nmP
  generalize sk B L p = q at *
  have l1 := (ltI (K := (fun _ => none, fun _ => none, 0, 0)) (σ := sI σ 2 (nI q)) (p := q) R.lt hL (fun _ => none, 0, 0)).2.1
  have e4 : (sI σ 2 (nI q)).1 4 = σ.1 4 := sI_n (by omega)
  have e2 : (sI σ 2 (nI q)).1 2 = nI q := sI_s
  have e5 : (sI σ 2 (nI q)).1 5 = 0 := by rw [sI_n (by omega)]; exact h5
  have n37 : fX6_name_37 (sI σ 2 (nI q)) = some (sI (sI (sI σ 2 (nI q)) 5 1) 6 (nI q), 0) := by
    simp only [fX6_name_37, fail_o e5, bsm, e2]
  have bad : TF5 σ (sI (sI (sI σ 2 (nI q)) 5 1) 6 (nI q)) ∧ (sI (sI (sI σ 2 (nI q)) 5 1) 6 (nI q)).1 5 = nI 1 ∧ (sI (sI (sI σ 2 (nI q)) 5 1) 6 (nI q)).1 6 = nI q := ⟨(((TF5.refl σ).set _ (by omega)).set _ (by omega)).set _ (by omega), by rw [sI_n (by omega)]; exact sI_s, sI_s⟩
  by_cases z : LEa B L q ∧ ¬ PT B q
  rotate_left
  · rw [if_neg z]
    refine ⟨_, ?_, bad.1, bad.2.1, bad.2.2, rfl⟩
    simp only [fX6_name, h5, if_true, lk, bsm, l1, e2, e4, ts]
    by_cases z1 : LEa B L q
    · rw [if_pos z1, if_neg n01, if_pos (Classical.byContradiction fun g => z ⟨z1, g⟩), n37]
    · rw [if_neg z1, if_pos rfl, n37]
  rw [if_pos z]
  have ow' := ownT R1 T1 (W.to (fun _ _ => rfl)) e5 ss z
  have base : fX6_name σ = if (match fd B q (we B L q) ownL with | none => (0 : Int32) | some _ => 1) = 0 then fX6_name_58 FU (sI (sI σ 2 (nI q)) 39 (nI q)) 0 else fX6_name_37 (sI σ 2 (nI q)) := by
    simp only [fX6_name, h5, if_true, lk, bsm, l1, e2, e4, ts, if_pos z.1, if_neg n01, if_neg z.2, ow']
  rw [base]
  cases hfd : fd B q (we B L q) ownL with
  | some j => exact ⟨_, by rw [if_neg n01, n37], bad.1, bad.2.1, bad.2.2, rfl⟩
  | none =>
    have wg := @we_ge q L B
    have wl := @we_le q L B ql
    obtain ⟨s, hs⟩ : ∃ s, s = sI (sI σ 2 (nI q)) 39 (nI q) := ⟨_, rfl⟩
    have Fs : TF5 σ s := by rw [hs]; exact ((TF5.refl σ).set _ (by omega)).set _ (by omega)
    have s5 : s.1 5 = 0 := by rw [hs, sI_n (by omega)]; exact e5
    have s6 : s.1 6 = σ.1 6 := by rw [hs, sI_n (by omega), sI_n (by omega)]
    have s39 : s.1 39 = nI q := by rw [hs]; exact sI_s
    have s2 : s.1 2 = nI q := by rw [hs, sI_n (by omega)]; exact e2
    have Rs : TD s B L q := ⟨by rw [hs]; exact R1.1, hL, ql, by rw [hs, sI_n (by omega)]; exact R1.2.2.2.1, s2⟩
    have key := name58 Rs s5 s39 6 0 FU s (by omega) (FU_lt (by omega)) (by omega) (TF5.refl s) s5 rfl s39 s2 (fun j hj => absurd hj (by omega))
    rw [if_pos rfl, ← hs]
    show (match (if 6 < we B L q - q then (.inl (1, q + 6) : (Nat × Nat) ⊕ Nat) else .inr (we B L q)) with | .inl e => _ | .inr e => _)
    rcases key with ⟨k0, σ', k1, k2, k3, k4, k5, k6, k7⟩ | ⟨k0, σ', k1, k2, k3, k4⟩
    · rw [if_neg (by omega)]
      have F' := Fs.tr k2
      refine ⟨σ', k1, F', k3, by rw [k4, s6], k5, ⟨R.1.to (by rw [F'.1]), hL, wl, by rw [F'.2 3 (by omega) (by omega) (by omega) (by omega) (by omega)]; exact R.2.2.2.1, k6⟩, Or.inr ⟨we B L q, Nat.le_refl _, k7, ⟨fun _ => we_PT z.1, fun _ => rfl⟩⟩, rfl⟩
    · rw [if_pos k0]
      exact ⟨σ', k1, Fs.tr k2, k3, k4, rfl⟩
end PNM

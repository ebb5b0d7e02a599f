/-! PLAIN LAW, rows told -/
set_option maxRecDepth 100000
theorem byte_o : ∀ c, c < 256 → (nI c).toInt8.toInt32 &&& 255 = nI c := by decide +kernel
section PTL
variable {K : KE} {a i n k f p m nk nf np hr tp r j : Nat} {M M' : CM} {σ σ' : MS} {pt : Nat → Nat} {vl vf vm : Option Nat}
theorem ZP.at (Z : ZP M σ) (hk : k < 1600) : fX0_byteAt K (hp a M) a (nI k) = some (σ.2.2.1 0 k) := by
  obtain ⟨c, c1, c2, c3⟩ := Z k hk
  simp only [fX0_byteAt, x_g1, bsm, c_tape hk, c3, byte_o c c1, c2]
theorem ZP.le (Z : ZP M σ) (hk : k < 1600) : ∃ c, c < 256 ∧ σ.2.2.1 0 k = nI c := by
  obtain ⟨c, c1, c2, c3⟩ := Z k hk
  exact ⟨c, c1, c2⟩
/-- the tape is taken -/
theorem RE.take (E : RE K a M σ n nf np pt) (hn : np ≤ 5) : RE K a (mI M 0 2 0) (sI σ 1 0) n nf np pt := by
  obtain ⟨h1, ⟨tp, z1, z2, z3, z4⟩, h3, h4, h5, h6, h7, h8, h9, h10, h11⟩ := E
  refine ⟨h1.to (fun o ho => mI_o (by omega)) (fun _ _ => rfl), ⟨0, by omega, mI_s, by rw [sI_s]; rfl, z4.1, ?_, ?_, z4.2.2.2⟩, h3.to (mI_o (by omega)) rfl, h4.to (mI_n (by omega)) (mI_n (by omega)) (sI_n (by omega)) (sI_n (by omega)), h5.to (mI_o (by omega)) rfl, h6.to (mI_n (by omega)) (fun o ho => mI_o (by omega)) (sI_n (by omega)) rfl, h7.to rfl rfl, h8.to (mI_n (by omega)) (mI_o (by omega)) (sI_n (by omega)) rfl, ?_, by rw [sI_n (by omega)]; exact h10, h11⟩
  · have := z4.2.1
    show M.2.2.2.2.1 + cA * 0 + (64 - n) * cB ≤ _
    omega
  · have := z4.2.2.1
    show M.2.2.2.2.2 + sA' * 0 + (64 - n) * sB' ≤ _
    omega
  · obtain ⟨u, nw, κ, q1, q2, q3, q4, q5, q6, q7, q8⟩ := h9
    refine ⟨u, nw, κ, q1, q2, by rw [mI_n (by omega)]; exact q3, by rw [sI_n (by omega)]; exact q4, by rw [sI_n (by omega)]; exact q5, q6, q7, fun j hj => ?_⟩
    have hk' := (q6 j (by omega)).1
    have hs := sbo_c (2 + κ j)
    exact (q8 j hj).to (by omega) hn (fun t' ht => mI_o (by omega)) rfl (fun j _ => rfl)
theorem taken_c (h : M.1 0 2 = nI tp) : fX0_taken K (hp a M) a = some (hp a (mI M 0 2 0), nI tp) := by
  simp only [fX0_taken, x_g2, h, bsm, x_p2]
def rowV (σ : MS) (nf j : Nat) : Prop := ∃ h f b, h < 24 ∧ f < nf ∧ b < 2 ∧ σ.2.2.1 0 (3 * j) = nI h ∧ σ.2.2.1 0 (3 * j + 1) = nI f ∧ σ.2.2.1 0 (3 * j + 2) = nI b
theorem tell_z (a3 : Int32) (fu : Nat) (hf : 0 < fu) : fX0_tell_29 K a fu (hp a M) (nI tp) 0 a3 = fX0_tell_85 K a (hp a M) (nI tp) 0 ∧ fX6_tell_36 fu σ (nI tp) 0 a3 = fX6_tell_95 σ (nI tp) 0 := by
  obtain ⟨q, rfl⟩ : ∃ q, fu = q + 1 := ⟨fu - 1, by omega⟩
  simp only [fX0_tell_29, fX6_tell_36, if_true]
  by_cases h : nI tp ≤ a3
  · rw [if_pos h, if_pos h]
    exact ⟨rfl, rfl⟩
  · rw [if_neg h, if_neg h]
    exact ⟨rfl, rfl⟩
theorem tell_v (X : HX a M σ nk nf np pt vl vf vm) (Z : ZP M σ) (hr' : r ≤ 16) : ∀ (d j : Nat) (f1 f2 : Nat), j + d = r → d + 1 < f1 → d + 1 < f2 → (∀ k, k < j → rowV σ nf k) →
    (fX0_tell_29 K a f1 (hp a M) (nI (3 * r)) 1 (nI (3 * j)) = fX0_tell_85 K a (hp a M) (nI (3 * r)) 0 ∧ fX6_tell_36 f2 σ (nI (3 * r)) 1 (nI (3 * j)) = fX6_tell_95 σ (nI (3 * r)) 0) ∨
    ((∀ k, k < r → rowV σ nf k) ∧ fX0_tell_29 K a f1 (hp a M) (nI (3 * r)) 1 (nI (3 * j)) = fX0_tell_85 K a (hp a M) (nI (3 * r)) 1 ∧ fX6_tell_36 f2 σ (nI (3 * r)) 1 (nI (3 * j)) = fX6_tell_95 σ (nI (3 * r)) 1) := by
  intro d
  induction d with
  | zero =>
    intro j f1 f2 hj h1 h2 V
    obtain ⟨n, rfl⟩ : ∃ n, f1 = n + 1 := ⟨f1 - 1, by omega⟩
    obtain ⟨m, rfl⟩ : ∃ n, f2 = n + 1 := ⟨f2 - 1, by omega⟩
    obtain rfl : j = r := by omega
    refine Or.inr ⟨V, ?_, ?_⟩
    · simp only [fX0_tell_29, nI_leE (show 3 * j < 2 ^ 31 by omega) (show 3 * j < 2 ^ 31 by omega), Nat.le_refl, if_true]
    · simp only [fX6_tell_36, nI_leE (show 3 * j < 2 ^ 31 by omega) (show 3 * j < 2 ^ 31 by omega), Nat.le_refl, if_true]
  | succ d ih =>
    intro j f1 f2 hj h1 h2 V
    obtain ⟨n, rfl⟩ : ∃ n, f1 = n + 1 := ⟨f1 - 1, by omega⟩
    obtain ⟨m, rfl⟩ : ∃ n, f2 = n + 1 := ⟨f2 - 1, by omega⟩
    have b := X.bk
    have e0 := SameH.refl M
    obtain ⟨c0, c1, c2⟩ := Z.le (k := 3 * j) (by omega)
    obtain ⟨d0, d1, d2⟩ := Z.le (k := 3 * j + 1) (by omega)
    obtain ⟨g0, g1, g2⟩ := Z.le (k := 3 * j + 2) (by omega)
    have kk : ¬ 3 * r ≤ 3 * j := by omega
    have k24 : ((24 : Int32) ≤ nI c0) = (24 ≤ c0) := nI_leE (a := 24) (by omega) (by omega)
    have k2 : ((2 : Int32) ≤ nI g0) = (2 ≤ g0) := nI_leE (a := 2) (by omega) (by omega)
    have k3 : nI (3 * j) + 3 = nI (3 * (j + 1)) := (nI_add (3 * j) 3).trans (congrArg nI (by omega))
    have kb : nI (3 * j) + 2 = nI (3 * j + 2) := nI_add (3 * j) 2
    have bad := fun a3 => tell_z (K := K) (a := a) (M := M) (σ := σ) (tp := 3 * r) a3
    simp only [fX0_tell_29, fX6_tell_36, nI_leE (show 3 * r < 2 ^ 31 by omega) (show 3 * j < 2 ^ 31 by omega), if_neg kk, if_neg n01, x_rcv, bsm, Z.at (K := K) (a := a) (show 3 * j < 1600 by omega), tg0 (σ := σ) (show 3 * j < 1600 by omega), nI_1, Z.at (K := K) (a := a) (show 3 * j + 1 < 1600 by omega), tg0 (σ := σ) (show 3 * j + 1 < 1600 by omega), kb, Z.at (K := K) (a := a) (show 3 * j + 2 < 1600 by omega), tg0 (σ := σ) (show 3 * j + 2 < 1600 by omega), c2, d2, g2, k24, k2, fX0_tell_77, fX6_tell_87, fX0_tell_78, fX6_tell_88, k3]
    by_cases q1 : 24 ≤ c0
    · rw [if_pos q1, if_pos q1]
      exact Or.inl ⟨(bad _ n (by omega)).1, (bad _ m (by omega)).2⟩
    · rw [if_neg q1, if_neg q1]
      rcases X.isFilm K (nI d0) with ⟨f, hf, e, s1, s2⟩ | ⟨s1, s2⟩
      · rw [s1 M e0, s2]
        simp only [bsm, if_neg n01]
        by_cases q2 : 2 ≤ g0
        · rw [if_pos q2, if_pos q2]
          exact Or.inl ⟨(bad _ n (by omega)).1, (bad _ m (by omega)).2⟩
        · rw [if_neg q2, if_neg q2]
          refine ih (j + 1) n m (by omega) (by omega) (by omega) (fun k hk => ?_)
          by_cases hkj : k = j
          · subst hkj
            exact ⟨c0, f, g0, by omega, hf, by omega, c2, by rw [d2, e], g2⟩
          · exact V k (by omega)
      · rw [s1 M e0, s2]
        simp only [bsm, if_true]
        exact Or.inl ⟨(bad _ n (by omega)).1, (bad _ m (by omega)).2⟩
theorem tell_w (Z : ZP M σ) (hr' : r ≤ 16) (h15 : M.1 0 15 = nI r) (V : ∀ k, k < r → rowV σ nf k) : ∃ M', fX0_tell_104 K a FU (hp a M) 0 = some (hp a M', nI r) ∧ M'.2 = M.2 ∧ (∀ o, o ≠ 167 ∧ o ≠ 168 ∧ o ≠ 169 → M'.1 o = M.1 o) ∧ ∀ k, k < r → M'.1 167 k = σ.2.2.1 0 (3 * k) ∧ M'.1 168 k = σ.2.2.1 0 (3 * k + 1) ∧ M'.1 169 k = σ.2.2.1 0 (3 * k + 2) := by
  refine lp1z (F := fun n (h : HS) k => fX0_tell_104 K a n h k) (N := r) (x := hp a M) (I := fun q h => ∃ M', h = hp a M' ∧ M'.2 = M.2 ∧ (∀ o, o ≠ 167 ∧ o ≠ 168 ∧ o ≠ 169 → M'.1 o = M.1 o) ∧ ∀ k, k < q → M'.1 167 k = σ.2.2.1 0 (3 * k) ∧ M'.1 168 k = σ.2.2.1 0 (3 * k + 1) ∧ M'.1 169 k = σ.2.2.1 0 (3 * k + 2)) (P := fun o => ∃ M', o = some (hp a M', nI r) ∧ M'.2 = M.2 ∧ (∀ o, o ≠ 167 ∧ o ≠ 168 ∧ o ≠ 169 → M'.1 o = M.1 o) ∧ ∀ k, k < r → M'.1 167 k = σ.2.2.1 0 (3 * k) ∧ M'.1 168 k = σ.2.2.1 0 (3 * k + 1) ∧ M'.1 169 k = σ.2.2.1 0 (3 * k + 2)) (by omega) ⟨M, rfl, rfl, fun _ _ => rfl, fun k hk => absurd hk (by omega)⟩ ?_ ?_
  · rintro n h k hk ⟨M1, rfl, m2, m1, w⟩
    obtain ⟨h', f, b, b1, b2, b3, b4, b5, b6⟩ := V k hk
    have kk := nI_ge hk (show r < 2 ^ 31 by omega)
    have f15 : M1.1 0 15 = nI r := by rw [m1 0 (by omega)]; exact h15
    have zz : ∀ M2 : CM, M2.1 8 = M.1 8 → ZP M2 σ := fun M2 e => Z.to e rfl
    have z0 := (zz M1 (m1 8 (by omega))).at (K := K) (a := a) (k := 3 * k) (by omega)
    have z1 := (zz (mI M1 167 k (σ.2.2.1 0 (3 * k))) ((mI_o (by omega)).trans (m1 8 (by omega)))).at (K := K) (a := a) (k := 3 * k + 1) (by omega)
    have z2 := (zz (mI (mI M1 167 k (σ.2.2.1 0 (3 * k))) 168 k (σ.2.2.1 0 (3 * k + 1))) ((mI_o (by omega)).trans ((mI_o (by omega)).trans (m1 8 (by omega))))).at (K := K) (a := a) (k := 3 * k + 2) (by omega)
    refine Or.inl ⟨hp a (mI (mI (mI M1 167 k (σ.2.2.1 0 (3 * k))) 168 k (σ.2.2.1 0 (3 * k + 1))) 169 k (σ.2.2.1 0 (3 * k + 2))), ⟨_, rfl, m2, fun o ho => ?_, fun k' hk' => ?_⟩, ?_⟩
    · rw [mI_o (by omega), mI_o (by omega), mI_o (by omega)]
      exact m1 o ho
    · by_cases e : k' = k
      · subst e
        refine ⟨?_, ?_, mI_s⟩
        · rw [mI_n (by omega), mI_n (by omega), mI_s]
        · rw [mI_n (by omega), mI_s]
      · rw [mI_n (Or.inr e), mI_n (Or.inr e), mI_n (Or.inr e), mI_n (Or.inr e), mI_n (Or.inr e), mI_n (Or.inr e), mI_n (Or.inr e), mI_n (Or.inr e), mI_n (Or.inr e)]
        exact w k' (by omega)
    · have e1 : (3 : Int32) * nI k = nI (3 * k) := nI_mul 3 k
      have e2 : nI (3 * k) + 2 = nI (3 * k + 2) := nI_add (3 * k) 2
      have eb : (if σ.2.2.1 0 (3 * k + 2) = 1 then (1 : Int32) else 0) = σ.2.2.1 0 (3 * k + 2) ∧ vp_nar .boolean (σ.2.2.1 0 (3 * k + 2)) = σ.2.2.1 0 (3 * k + 2) := by
        rw [b6]
        have : b = 0 ∨ b = 1 := by omega
        rcases this with rfl | rfl <;> decide
      simp only [fX0_tell_104, x_g15, f15, bsm, if_neg kk, x_g12, x_rcv, e1, z0, p_rowH (show k < 16 by omega), x_g13, nI_1, z1, p_rowF (show k < 16 by omega), x_g14, e2, z2, fX0_tell_163]
      by_cases q : σ.2.2.1 0 (3 * k + 2) = 1
      · rw [if_pos q] at eb ⊢
        rw [← eb.1] at eb
        rw [eb.2, p_rowS (show k < 16 by omega), bsm, q]
      · rw [if_neg q] at eb ⊢
        have q0 := eb.1
        rw [← eb.1] at eb
        rw [eb.2, p_rowS (show k < 16 by omega), bsm, ← q0]
  · rintro n h ⟨M1, rfl, m2, m1, w⟩
    have kk := nI_le (Nat.le_refl r) (show r < 2 ^ 31 by omega)
    have f15 : M1.1 0 15 = nI r := by rw [m1 0 (by omega)]; exact h15
    exact ⟨M1, by simp only [fX0_tell_104, x_g15, f15, bsm, if_pos kk], m2, m1, w⟩
theorem tell_x (hr' : r ≤ 16) : ∃ σ', fX6_tell_113 FU σ (nI (3 * r)) 0 = some (sI σ' 65 (nI r), nI r) ∧ σ'.1 = σ.1 ∧ σ'.2.1 = σ.2.1 ∧ σ'.2.2.2 = σ.2.2.2 ∧ (∀ k, k ≠ 66 → σ'.2.2.1 k = σ.2.2.1 k) ∧ ∀ k, k < 3 * r → σ'.2.2.1 66 k = σ.2.2.1 0 k := by
  refine lp1z (F := fun n (s : MS) k => fX6_tell_113 n s (nI (3 * r)) k) (N := 3 * r) (I := fun q σ' => σ'.1 = σ.1 ∧ σ'.2.1 = σ.2.1 ∧ σ'.2.2.2 = σ.2.2.2 ∧ (∀ k, k ≠ 66 → σ'.2.2.1 k = σ.2.2.1 k) ∧ ∀ k, k < q → σ'.2.2.1 66 k = σ.2.2.1 0 k) (P := fun o => ∃ σ', o = some (sI σ' 65 (nI r), nI r) ∧ σ'.1 = σ.1 ∧ σ'.2.1 = σ.2.1 ∧ σ'.2.2.2 = σ.2.2.2 ∧ (∀ k, k ≠ 66 → σ'.2.2.1 k = σ.2.2.1 k) ∧ ∀ k, k < 3 * r → σ'.2.2.1 66 k = σ.2.2.1 0 k) (by omega) ⟨rfl, rfl, rfl, fun _ _ => rfl, fun k hk => absurd hk (by omega)⟩ ?_ ?_
  · rintro n s k hk ⟨w1, w2, w3, w4, w5⟩
    have kk := nI_ge hk (show 3 * r < 2 ^ 31 by omega)
    refine Or.inl ⟨sA s 66 k (s.2.2.1 0 k), ⟨w1, w2, w3, fun q hq => ?_, fun q hq => ?_⟩, ?_⟩
    · rw [sA_n hq]; exact w4 q hq
    · by_cases e : q = k
      · subst e
        rw [sA_s, w4 0 (by omega)]
      · rw [sA_m e]
        exact w5 q (by omega)
    · simp only [fX6_tell_113, if_neg kk, tg0 (σ := s) (show k < 1600 by omega), bsm, tp66 (σ := s) (show k < 48 by omega), nI_1]
  · rintro n s ⟨w1, w2, w3, w4, w5⟩
    have kk := nI_le (Nat.le_refl (3 * r)) (show 3 * r < 2 ^ 31 by omega)
    have e : nI (3 * r) / 3 = nI r := (divI (n := 3 * r) (d := 3) (by omega) (by omega) (by omega)).trans (congrArg nI (by omega))
    exact ⟨s, by simp only [fX6_tell_113, if_pos kk, e, sI_s], w1, w2, w3, w4, w5⟩
theorem ps22 : PS22 K a (IV K a) := by
  intro h σ n hn I
  have I' := I.next
  obtain ⟨M, nk, nf, np, pt, vl, vf, vm, rfl, X, H, N, E⟩ := I'
  have b := X.bk
  have E1 := E.take b.2.2
  have N1 : KS a (mI M 0 2 0) 0 ((sI σ 1 0).2.2.1 54) np pt := N.nr b.2.2 (fun o h1 h2 => mI_o (by omega)) rfl rfl
  have X1 : HX a (mI M 0 2 0) (sI σ 1 0) nk nf np pt vl vf vm := X.to ⟨rfl, rfl⟩ (UpE.refl σ).up
  have H1 : HTs K a (mI M 0 2 0).2.2.2.1 (sI σ 1 0) vl vf vm := H.up (UpE.refl σ).up
  have I1 : IV K a (hp a (mI M 0 2 0)) (sI σ 1 0) (n + 1) := ⟨_, nk, nf, np, pt, vl, vf, vm, rfl, X1, H1, N1, E1⟩
  obtain ⟨-, ⟨tp, z1, z2, z3, -⟩, -⟩ := E
  have Z1 : ZP (mI M 0 2 0) (sI σ 1 0) := E1.2.2.1
  -- a refusal
  have bad : ∃ (h' : HS) (σ' : MS), fX0_tell_85 K a (hp a (mI M 0 2 0)) (nI tp) 0 = some (h', -1) ∧ fX6_tell_95 (sI σ 1 0) (nI tp) 0 = some (σ', -1) ∧ IV K a h' σ' (n + 1) := by
    obtain ⟨t1, t2⟩ := refT (k := 1) (by omega) (sI σ 1 0)
    have t1' : aI (sI σ 1 0) 9 (1 : Int32) = some ((sI σ 1 0).2.2.1 9 1) := t1
    have t2' : tI (sI σ 1 0) 9 (1 : Int32) ((sI σ 1 0).2.2.1 9 1 + 1) = some (sA (sI σ 1 0) 9 1 ((sI σ 1 0).2.2.1 9 1 + 1)) := t2
    obtain ⟨M1, e1, e2, e3⟩ := I1.ref (k := 1) (by omega)
    have e2' : fX0_refuses K (hp a M1) a (1 : Int32) = some (hp a (mI M1 15 1 (M1.1 15 1 + 1)), -1) := e2
    refine ⟨_, _, ?_, by simp only [fX6_tell_95, if_true, t1', bsm, t2'], e3⟩
    rw [e1]
    simp only [fX0_tell_85, if_true, x_rcv, bsm, e2']
  obtain ⟨h', σ', b1, b2, b3⟩ := bad
  have tk := taken_c (K := K) (a := a) z2
  have g1 := fun x => tell_z (K := K) (a := a) (M := mI M 0 2 0) (σ := sI σ 1 0) (tp := tp) x FU (FU_lt (by omega))
  have no : fX0_tell_25 K a (hp a (mI M 0 2 0)) (nI tp) = some (h', -1) ∧ fX6_tell_32 (sI σ 1 0) (nI tp) = some (σ', -1) := by
    simp only [fX0_tell_25, fX0_tell_26, fX6_tell_32, fX6_tell_33, (g1 0).1, (g1 0).2, b1, b2]
    exact ⟨trivial, trivial⟩
  have em : nI tp - nI tp / 3 * 3 = nI (tp % 3) := modI (d := 3) (by omega) (by omega) (by omega)
  have ed : nI tp / 3 = nI (tp / 3) := divI (d := 3) (by omega) (by omega) (by omega)
  have em' : nI tp - nI (tp / 3) * 3 = nI (tp % 3) := by rw [← ed]; exact em
  have k48 : ((48 : Int32) < nI tp) = (48 < tp) := nI_ltE (a := 48) (by omega) (by omega)
  have k16 : ((16 : Int32) < nI (tp / 3)) = (16 < tp / 3) := nI_ltE (a := 16) (by omega) (by omega)
  by_cases q0 : tp = 0
  · refine ⟨h', σ', -1, ?_, ?_, b3⟩
    · simp only [fX0_tell, x_rcv, bsm, tk, nI_le0 (show tp < 2 ^ 31 by omega), if_pos q0, no.1]
    · simp only [fX6_tell, z3, nI_le0 (show tp < 2 ^ 31 by omega), if_pos q0, no.2]
  by_cases q1 : tp % 3 = 0
  · by_cases q2 : 48 < tp
    · refine ⟨h', σ', -1, ?_, ?_, b3⟩
      · simp only [fX0_tell, x_rcv, bsm, tk, nI_le0 (show tp < 2 ^ 31 by omega), if_neg q0, em, nI_eq0 (show tp % 3 < 2 ^ 31 by omega), if_pos q1, k48, if_pos q2, no.1]
      · have q2' : 16 < tp / 3 := by omega
        simp only [fX6_tell, z3, nI_le0 (show tp < 2 ^ 31 by omega), if_neg q0, em, nI_eq0 (show tp % 3 < 2 ^ 31 by omega), if_pos q1, ed, em', k16, if_pos q2', no.2]
    · have q2' : ¬ 16 < tp / 3 := by omega
      have c0 : fX0_tell K (hp a M) a = fX0_tell_29 K a FU (hp a (mI M 0 2 0)) (nI tp) 1 0 := by
        simp only [fX0_tell, x_rcv, bsm, tk, nI_le0 (show tp < 2 ^ 31 by omega), if_neg q0, em, nI_eq0 (show tp % 3 < 2 ^ 31 by omega), if_pos q1, k48, if_neg q2, fX0_tell_26]
      have t0 : fX6_tell σ = fX6_tell_36 FU (sI σ 1 0) (nI tp) 1 0 := by
        simp only [fX6_tell, z3, nI_le0 (show tp < 2 ^ 31 by omega), if_neg q0, em, nI_eq0 (show tp % 3 < 2 ^ 31 by omega), if_pos q1, ed, em', k16, if_neg q2', fX6_tell_33]
      rw [c0, t0]
      obtain ⟨r, rfl⟩ : ∃ r, tp = 3 * r := ⟨tp / 3, by omega⟩
      rcases tell_v (K := K) X1 Z1 (r := r) (by omega) r 0 FU FU (by omega) (FU_lt (by omega)) (FU_lt (by omega)) (fun k hk => absurd hk (by omega)) with ⟨w1, w2⟩ | ⟨V, w1, w2⟩
      · exact ⟨h', σ', -1, w1.trans b1, w2.trans b2, b3⟩
      · have hr' : r ≤ 16 := by omega
        have ed' : nI (3 * r) / 3 = nI r := (divI (n := 3 * r) (d := 3) (by omega) (by omega) (by omega)).trans (congrArg nI (by omega))
        have Z2 : ZP (mI (mI M 0 2 0) 0 15 (nI r)) (sI σ 1 0) := Z1.to (mI_o (by omega)) rfl
        obtain ⟨M', u1, u2, u3, u4⟩ := tell_w (K := K) (a := a) Z2 hr' mI_s V
        obtain ⟨s, y1, y2, y3, y4, y5, y6⟩ := tell_x (σ := sI σ 1 0) hr'
        refine ⟨hp a M', sI s 65 (nI r), nI r, ?_, ?_, ?_⟩
        · refine w1.trans ?_
          simp only [fX0_tell_85, if_neg n01, ed', x_p15, bsm, u1]
        · refine w2.trans ?_
          simp only [fX6_tell_95, if_neg n01, y1]
        · have m1 : ∀ o, o ≠ 0 ∧ o ≠ 167 ∧ o ≠ 168 ∧ o ≠ 169 → M'.1 o = (mI M 0 2 0).1 o := fun o ho => by rw [u3 o (by omega), mI_o (by omega)]
          have m0 : ∀ k, k ≠ 15 → M'.1 0 k = (mI M 0 2 0).1 0 k := fun k hk => by rw [u3 0 (by omega), mI_n (by omega)]
          have m15 : M'.1 0 15 = nI r := by rw [u3 0 (by omega)]; exact mI_s
          have t1 : ∀ k, k ≠ 65 → (sI s 65 (nI r)).1 k = (sI σ 1 0).1 k := fun k hk => by rw [sI_n hk, y2]
          have e2 : M'.2 = (mI M 0 2 0).2 := u2
          have uu : UpE (sI σ 1 0) (sI s 65 (nI r)) := ⟨fun k hk => y5 k (by omega), by show s.2.2.2 41 = _; rw [y4]⟩
          obtain ⟨h1, h2, h3, h4, h5, h6, h7, h8, h9, h10, h11⟩ := E1
          refine ⟨M', nk, nf, np, pt, vl, vf, vm, rfl, X1.to ⟨by rw [e2], by rw [e2]⟩ uu.up, by rw [e2]; exact H1.up uu.up, N1.nr b.2.2 (fun o h1 h2 => m1 o (by omega)) (by rw [e2]) (y5 54 (by omega)), fun i hi => ?_, h2.to (m0 2 (by omega)) (by rw [e2]) (t1 1 (by omega)), h3.to (m1 8 (by omega)) (y5 0 (by omega)), h4.to (m0 3 (by omega)) (m0 4 (by omega)) (t1 7 (by omega)) (t1 8 (by omega)), h5.to (m1 15 (by omega)) (y5 9 (by omega)), ⟨r, hr', m15, sI_s, fun k hk => ?_⟩, h7.to (by rw [e2]) (by show s.2.1 70 = _; rw [y3]), h8.to (m0 21 (by omega)) (m1 1351 (by omega)) (t1 102 (by omega)) (y5 101 (by omega)), ?_, by rw [t1 60 (by omega)]; exact h10, h11.to (fun k hk => y5 k (by omega))⟩
          · obtain ⟨π, kp, R⟩ := h1 i hi
            have hs := sbo_c i
            exact ⟨π, kp, R.to (by rw [m1 _ (by omega)]) (by rw [e2])⟩
          · obtain ⟨x, f, bb, v1, v2, v3, v4, v5, v6⟩ := V k hk
            obtain ⟨a1, a2, a3⟩ := u4 k hk
            refine ⟨x, f, bb, v1, v2, v3, by rw [a1, v4], ?_, by rw [a2, v5], ?_, by rw [a3, v6], ?_⟩
            · show s.2.2.1 66 _ = _
              rw [y6 _ (by omega), v4]
            · show s.2.2.1 66 _ = _
              rw [y6 _ (by omega), v5]
            · show s.2.2.1 66 _ = _
              rw [y6 _ (by omega), v6]
          · obtain ⟨u, nw, κ, q1, q2, q3, q4, q5, q6, q7, q8⟩ := h9
            refine ⟨u, nw, κ, q1, q2, by rw [m0 17 (by omega)]; exact q3, by rw [t1 68 (by omega)]; exact q4, by rw [t1 69 (by omega)]; exact q5, by rw [e2]; exact q6, q7, fun j hj => ?_⟩
            have hk' := (q6 j (by omega)).1
            have hs := sbo_c (2 + κ j)
            exact (q8 j hj).to (by omega) b.2.2 (fun t' ht => m1 _ (by omega)) (by rw [e2]) (fun j _ => by show s.2.2.1 67 _ = _; rw [y5 67 (by omega)])
  · refine ⟨h', σ', -1, ?_, ?_, b3⟩
    · simp only [fX0_tell, x_rcv, bsm, tk, nI_le0 (show tp < 2 ^ 31 by omega), if_neg q0, em, nI_eq0 (show tp % 3 < 2 ^ 31 by omega), if_neg q1, no.1]
    · simp only [fX6_tell, z3, nI_le0 (show tp < 2 ^ 31 by omega), if_neg q0, em, nI_eq0 (show tp % 3 < 2 ^ 31 by omega), if_neg q1, no.2]
end PTL

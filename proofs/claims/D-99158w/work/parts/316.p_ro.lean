/-! PLAIN LAW, calls that only read -/
set_option maxRecDepth 100000
def pop (m : Nat) : Nat := m % 2 + m / 2 % 2 + m / 4 % 2 + m / 8 % 2 + m / 16 % 2
theorem pop_a : ∀ m, m < 32 → nI m &&& (nI m - 1) = nI (m &&& (m - 1)) := by decide +kernel
theorem pop_b : ∀ m, m < 32 → 0 < m → pop m = pop (m &&& (m - 1)) + 1 ∧ (m &&& (m - 1)) < m := by decide +kernel
theorem pop_c (K : KE) (h : HS) : ∀ m, m < 32 → fJ16_bitCount K h (nI m) = some (nI (pop m)) := by
  unfold fJ16_bitCount
  decide +kernel
theorem bits_o (σ : MS) : ∀ (d m fuel : Nat) (c : Nat), m < 32 → m < d → d ≤ fuel → fX6_bits_4 σ fuel (nI c) (nI m) = some (nI (c + pop m)) := by
  intro d
  induction d with
  | zero => intro m fuel c h1 h2; omega
  | succ d ih =>
    intro m fuel c h1 h2 h3
    obtain ⟨n, rfl⟩ : ∃ n, fuel = n + 1 := ⟨fuel - 1, by omega⟩
    by_cases h0 : m = 0
    · subst h0
      simp only [fX6_bits_4, nI_0, if_true]
      rfl
    · obtain ⟨b1, b2⟩ := pop_b m h1 (by omega)
      have e : ¬ nI m = 0 := by rw [nI_eq0 (by omega)]; exact h0
      simp only [fX6_bits_4, if_neg e, nI_1, pop_a m h1]
      rw [ih _ n (c + 1) (by omega) (by omega) (by omega), b1]
      exact congrArg (fun z => some (nI z)) (by omega)
theorem bitsT (σ : MS) {m : Nat} (h : m < 32) : fX6_bits σ (nI m) = some (nI (pop m)) := by
  have := bits_o σ 40 m FU 0 h (by omega) (by show 40 ≤ 100000; omega)
  rw [Nat.zero_add] at this
  exact this
theorem prs_a : ∀ m, m < 32 → ∀ p, p < 5 → m / 2 ^ p % 2 = 1 → nI (m % 2 ^ p) ||| nI (2 ^ p) = nI (m % 2 ^ (p + 1)) := by decide +kernel
theorem prs_b : ∀ m, m < 32 → ∀ p, p < 5 → m / 2 ^ p % 2 = 0 → m % 2 ^ p = m % 2 ^ (p + 1) := by decide +kernel
section PRO
variable {K : KE} {a i n k f p nk nf np hr : Nat} {M M' : CM} {σ σ' : MS} {pt : Nat → Nat} {vl vf vm : Option Nat}
theorem SR.press (X : HX a M σ nk nf np pt vl vf vm) (S : SR M i (σ.2.2.1 54) np pt hr) : ∃ m, m < 32 ∧ m < 2 ^ np ∧ M.1 (sbo i) 1 = nI m ∧ (∀ p, p < np → fX6_doesPress σ (nI p) = some (nI (m / 2 ^ p % 2))) ∧ fX6_pressers σ = some (nI m) := by
  have b := X.bk
  obtain ⟨-, ⟨m, m1, m2, m3⟩, -⟩ := S
  have hm : m < 32 := Nat.lt_of_lt_of_le m1 (show 2 ^ np ≤ 2 ^ 5 from Nat.pow_le_pow_right (by omega) b.2.2)
  have dp : ∀ p, p < np → fX6_doesPress σ (nI p) = some (nI (m / 2 ^ p % 2)) := fun p hp => by
    simp only [fX6_doesPress, ki86, ki2, nI_mul, nI_add, tg54 (i := 86 + 2 * p) (by omega), bsm, m3 p hp]
    rcases Nat.mod_two_eq_zero_or_one (m / 2 ^ p) with e | e <;> rw [e] <;> rfl
  refine ⟨m, hm, m1, m2, dp, ?_⟩
  refine lp1z (F := fun n (x : Int32) k => fX6_pressers_4 σ n x k) (N := np) (I := fun k x => x = nI (m % 2 ^ k)) (P := fun r => r = some (nI m)) (x := 0) (by omega) (by rw [Nat.pow_zero, Nat.mod_one]; rfl) ?_ ?_
  · rintro n x k hk rfl
    have kk := nI_ge hk (show np < 2 ^ 31 by omega)
    refine Or.inl ⟨nI (m % 2 ^ (k + 1)), rfl, ?_⟩
    simp only [fX6_pressers_4, X.persM, bsm, if_neg kk, dp k hk, shl1 k (by omega)]
    rcases Nat.mod_two_eq_zero_or_one (m / 2 ^ k) with e | e <;> rw [e]
    · rw [if_pos (by decide)]
      simp only [fX6_pressers_26, nI_1, prs_b m hm k (by omega) e]
    · rw [if_neg (by decide)]
      simp only [fX6_pressers_26, nI_1, prs_a m hm k (by omega) e]
  · rintro n x rfl
    have kk := nI_le (Nat.le_refl np) (show np < 2 ^ 31 by omega)
    simp only [fX6_pressers_4, X.persM, bsm, if_pos kk, Nat.mod_eq_of_lt m1]
def av (σ : MS) (np : Nat) : Int32 := lp (fun p x => x + σ.2.2.1 54 (86 + 2 * p + 1)) 0 np
theorem hoursOfT (σ : MS) (hp' : p < 5) : fX6_hoursOf σ (nI p) = some (σ.2.2.1 54 (86 + 2 * p + 1)) := by
  simp only [fX6_hoursOf, ki86, ki2, nI_mul, nI_add, nI_1, tg54 (i := 86 + 2 * p + 1) (by omega), bsm]
theorem HX.allT (X : HX a M σ nk nf np pt vl vf vm) : fX6_hoursAll σ = some (av σ np) := by
  have b := X.bk
  refine lpF (F := fun n x k => fX6_hoursAll_4 σ n x k) (N := np) (g := fun p x => x + σ.2.2.1 54 (86 + 2 * p + 1)) (r := some) (x := 0) (fun n k hk => ?_) (fun n => ?_) (FU_lt (by omega))
  · simp only [fX6_hoursAll_4, X.persM, bsm, if_neg (nI_ge hk (show np < 2 ^ 31 by omega)), hoursOfT σ (show k < 5 by omega), nI_1, lp]
  · simp only [fX6_hoursAll_4, X.persM, bsm, if_pos (nI_le (Nat.le_refl np) (show np < 2 ^ 31 by omega))]
theorem HX.allC (X : HX a M σ nk nf np pt vl vf vm) (S : SR M 0 (σ.2.2.1 54) np pt hr) (h9 : pt 9 = 0) : fX0_allSaw K (hp a M) a = some (av σ np) := by
  have b := X.bk
  have s : ∀ p, p < 5 → _ := fun p hp => S.saw h9 hp
  refine lpF (F := fun n x k => fX0_allSaw_4 K (hp a M) a n x k) (N := np) (g := fun p x => x + σ.2.2.1 54 (86 + 2 * p + 1)) (r := some) (x := 0) (fun n k hk => ?_) (fun n => ?_) (FU_lt (by omega))
  · simp only [fX0_allSaw_4, x_rcv, X.people (SameH.refl M), bsm, if_neg (nI_ge hk (show np < 2 ^ 31 by omega)), x_g9, s_g5 (show 0 < 22 by omega), c_saw (show 0 < 22 by omega) (show k < 5 by omega), (s k (by omega)).1, nI_1, lp]
  · simp only [fX0_allSaw_4, x_rcv, X.people (SameH.refl M), bsm, if_pos (nI_le (Nat.le_refl np) (show np < 2 ^ 31 by omega))]
theorem ps3 : PS3 K a (IV K a) := by
  intro h σ n x hn I
  have I' := I.next
  obtain ⟨M, nk, nf, np, pt, vl, vf, vm, rfl, X, H, N, E⟩ := I
  obtain ⟨-, -, -, ⟨z1, z2⟩, -⟩ := E
  by_cases h0 : x = 0
  · exact ⟨σ.1 7, by simp only [fX0_fault, if_pos h0, x_g3, bsm, z1], by simp only [fX6_fault, if_pos h0], I'⟩
  · by_cases h1 : x = 1
    · exact ⟨σ.1 8, by simp only [fX0_fault, if_neg h0, if_pos h1, x_g4, bsm, z2], by simp only [fX6_fault, if_neg h0, if_pos h1], I'⟩
    · exact ⟨-1, by simp only [fX0_fault, if_neg h0, if_neg h1], by simp only [fX6_fault, if_neg h0, if_neg h1], I'⟩
theorem ps4 : PS4 K a (IV K a) := by
  intro h σ n x hn I
  have I' := I.next
  obtain ⟨M, nk, nf, np, pt, vl, vf, vm, rfl, X, H, ⟨hr, π, kp, N1, N2, N3, N4⟩, E⟩ := I
  obtain ⟨-, -, -, -, -, ⟨rw', w1, w2, w3, -⟩, -, -, ⟨u, nw, κ, u1, u2, u3, u4, -⟩, -⟩ := E
  have b := X.bk
  obtain ⟨v1, v2, v3⟩ := X.v.2.1
  obtain ⟨m, m1, m0, m2, m3, m4⟩ := SR.press X N2
  obtain ⟨⟨a1, a2, a3, a4⟩, -, -⟩ := id N2
  obtain ⟨ha, g0, g2, -⟩ := X.set K
  have e0 := SameH.refl M
  have i0 : 0 < 22 := by omega
  obtain ⟨d1, d2⟩ := mod24 (show hr < 2 ^ 31 by omega)
  by_cases h0 : x = 0
  · subst h0
    exact ⟨nI nk, by simp only [fX0_has_2, if_true, x_rcv, bsm, X.kinds e0], by
      have z := tg40 (σ := σ) (i := 3) (by omega)
      have z' : aI σ 40 ((3 : Int32) + 0) = some (nI nk) := by rw [v1] at z; exact z
      simp only [fX6_has, if_true, z', bsm], I'⟩
  by_cases h1 : x = 1
  · subst h1
    exact ⟨nI nf, by simp only [fX0_has_2, if_neg h0, if_true, x_rcv, bsm, X.films e0], by
      have z := tg40 (σ := σ) (i := 4) (by omega)
      have z' : aI σ 40 ((3 : Int32) + 1) = some (nI nf) := by rw [v2] at z; exact z
      simp only [fX6_has, if_neg h0, if_true, z', bsm], I'⟩
  by_cases h2 : x = 2
  · subst h2
    exact ⟨nI np, by simp only [fX0_has_2, if_neg h0, if_neg h1, if_true, x_rcv, bsm, X.people e0], by
      have z := tg40 (σ := σ) (i := 5) (by omega)
      have z' : aI σ 40 ((3 : Int32) + 2) = some (nI np) := by rw [v3] at z; exact z
      simp only [fX6_has, if_neg h0, if_neg h1, if_true, z', bsm], I'⟩
  by_cases h3 : x = 3
  · subst h3
    exact ⟨σ.2.2.1 47 4, by simp only [fX0_has_2, if_neg h0, if_neg h1, if_neg h2, if_true, x_g0, bsm, g0 M e0, g2 M e0], by
      have z := tg47 (σ := σ) (i := 4) (by omega)
      have z' : aI σ 47 (4 : Int32) = some (σ.2.2.1 47 4) := z
      simp only [fX6_has, if_neg h0, if_neg h1, if_neg h2, if_true, z', bsm], I'⟩
  by_cases h4 : x = 4
  · subst h4
    exact ⟨nI (hr / 24), by simp only [fX0_has_2, if_neg h0, if_neg h1, if_neg h2, if_neg h3, if_true, x_g9, bsm, s_g0 i0, a1, d2], by
      have z := tg54 (σ := σ) (i := 0) (by omega)
      have z' : aI σ 54 ((4 : Int32) - 4) = some (nI (hr / 24)) := by rw [a2] at z; exact z
      simp only [fX6_has, if_neg h0, if_neg h1, if_neg h2, if_neg h3, if_true, z', bsm], I'⟩
  by_cases h5 : x = 5
  · subst h5
    exact ⟨nI (hr % 24), by simp only [fX0_has_2, if_neg h0, if_neg h1, if_neg h2, if_neg h3, if_neg h4, if_true, x_g9, bsm, s_g0 i0, a1, d1], by
      have z := tg54 (σ := σ) (i := 1) (by omega)
      have z' : aI σ 54 ((5 : Int32) - 4) = some (nI (hr % 24)) := by rw [a3] at z; exact z
      simp only [fX6_has, if_neg h0, if_neg h1, if_neg h2, if_neg h3, if_neg h4, if_true, z', bsm], I'⟩
  by_cases h6 : x = 6
  · subst h6
    exact ⟨nI (pop m), by simp only [fX0_has_2, if_neg h0, if_neg h1, if_neg h2, if_neg h3, if_neg h4, if_neg h5, if_true, x_g9, bsm, s_g1 i0, m2, pop_c K (hp a M) m m1], by
      simp only [fX6_has, if_neg h0, if_neg h1, if_neg h2, if_neg h3, if_neg h4, if_neg h5, if_true, m4, bsm, bitsT σ m1], I'⟩
  by_cases h7 : x = 7
  · subst h7
    exact ⟨av σ np, by simp only [fX0_has_2, if_neg h0, if_neg h1, if_neg h2, if_neg h3, if_neg h4, if_neg h5, if_neg h6, if_true, x_rcv, bsm, X.allC N2 N1.2], by
      simp only [fX6_has, if_neg h0, if_neg h1, if_neg h2, if_neg h3, if_neg h4, if_neg h5, if_neg h6, if_true, X.allT, bsm], I'⟩
  by_cases h8 : x = 8
  · subst h8
    exact ⟨nI kp, by simp only [fX0_has_2, if_neg h0, if_neg h1, if_neg h2, if_neg h3, if_neg h4, if_neg h5, if_neg h6, if_neg h7, if_true, x_g9, bsm, s_g2 i0, N3.2.1], by
      have z := tg54 (σ := σ) (i := 96) (by omega)
      have z' : aI σ 54 (96 : Int32) = some (nI kp) := by rw [N4.1] at z; exact z
      simp only [fX6_has, if_neg h0, if_neg h1, if_neg h2, if_neg h3, if_neg h4, if_neg h5, if_neg h6, if_neg h7, if_true, z', bsm], I'⟩
  by_cases h9 : x = 9
  · subst h9
    exact ⟨nI rw', by simp only [fX0_has_2, if_neg h0, if_neg h1, if_neg h2, if_neg h3, if_neg h4, if_neg h5, if_neg h6, if_neg h7, if_neg h8, if_true, x_g15, bsm, w2], by
      simp only [fX6_has, if_neg h0, if_neg h1, if_neg h2, if_neg h3, if_neg h4, if_neg h5, if_neg h6, if_neg h7, if_neg h8, if_true, w3], I'⟩
  by_cases h10 : x = 10
  · subst h10
    exact ⟨nI u, by simp only [fX0_has_2, if_neg h0, if_neg h1, if_neg h2, if_neg h3, if_neg h4, if_neg h5, if_neg h6, if_neg h7, if_neg h8, if_neg h9, if_true, x_g17, bsm, u3], by
      simp only [fX6_has, if_neg h0, if_neg h1, if_neg h2, if_neg h3, if_neg h4, if_neg h5, if_neg h6, if_neg h7, if_neg h8, if_neg h9, if_true, u4], I'⟩
  exact ⟨-1, by simp only [fX0_has_2, if_neg h0, if_neg h1, if_neg h2, if_neg h3, if_neg h4, if_neg h5, if_neg h6, if_neg h7, if_neg h8, if_neg h9, if_neg h10], by
    simp only [fX6_has, if_neg h0, if_neg h1, if_neg h2, if_neg h3, if_neg h4, if_neg h5, if_neg h6, if_neg h7, if_neg h8, if_neg h9, if_neg h10], I'⟩
theorem n01 : ¬ (1 : Int32) = 0 := by decide
theorem ps6 : PS6 K a (IV K a) := by
  intro h σ n x y hn I
  have I' := I.next
  obtain ⟨M, nk, nf, np, pt, vl, vf, vm, rfl, X, H, N, E⟩ := I
  have b := X.bk
  have e0 := SameH.refl M
  rcases X.isFilm K x with ⟨f, hf, rfl, c1, t1⟩ | ⟨c1, t1⟩
  · obtain ⟨fa, ia, f1, f2, f3, f4⟩ := X.film K hf
    have po : fX6_partsOf σ (nI f) = some (σ.2.2.1 42 (8 + f)) := by
      simp only [fX6_partsOf, ki8, nI_add, tg42 (i := 8 + f) (by omega), bsm]
    by_cases h0 : y = 0
    · subst h0
      refine ⟨σ.2.2.1 42 (8 + f), ?_, ?_, I'⟩
      · simp only [fX0_film, x_rcv, bsm, c1 M e0, if_neg n01, if_true, f1 M e0, f2 M e0]
      · simp only [fX6_film, t1, bsm, if_neg n01, if_pos (show (0 : Int32) < 10 by decide), fX6_film_37, if_true, po]
    · by_cases h1 : y < 10
      · refine ⟨-1, ?_, ?_, I'⟩
        · simp only [fX0_film, x_rcv, bsm, c1 M e0, if_neg n01, if_neg h0, if_pos h1]
        · simp only [fX6_film, t1, bsm, if_neg n01, if_pos h1, fX6_film_37, if_neg h0]
      · rcases X.isKind K (y - 10) with ⟨k, hk, e, c2, t2⟩ | ⟨c2, t2⟩
        · refine ⟨σ.2.2.1 43 (48 + 6 * f + k), ?_, ?_, I'⟩
          · have c2' := c2 M e0
            rw [e] at c2'
            simp only [fX0_film, x_rcv, bsm, c1 M e0, if_neg n01, if_neg h0, if_neg h1, e, c2', f1 M e0, f3 M e0, f4 M k e0 (show k < 6 by omega)]
          · rw [e] at t2
            simp only [fX6_film, t1, bsm, if_neg n01, if_neg h1, e, t2, fX6_weightOf, ki48, ki6, nI_mul, nI_add, tg43 (i := 48 + 6 * f + k) (by omega)]
        · refine ⟨-1, ?_, ?_, I'⟩
          · simp only [fX0_film, x_rcv, bsm, c1 M e0, if_neg n01, if_neg h0, if_neg h1, c2 M e0, if_true]
          · simp only [fX6_film, t1, bsm, if_neg n01, if_neg h1, t2, if_true, fX6_film_37, if_neg h0]
  · refine ⟨-1, ?_, ?_, I'⟩
    · simp only [fX0_film, x_rcv, bsm, c1 M e0, if_true]
    · simp only [fX6_film, t1, bsm, if_true]
theorem ps7 : PS7 K a (IV K a) := by
  intro h σ n x y hn I
  have I' := I.next
  obtain ⟨M, nk, nf, np, pt, vl, vf, vm, rfl, X, H, ⟨hr, π, kp, N1, N2, N3, N4⟩, E⟩ := I
  have b := X.bk
  have e0 := SameH.refl M
  have i0 : 0 < 22 := by omega
  rcases X.isPers K x with ⟨p, hp', rfl, c1, t1⟩ | ⟨c1, t1⟩
  · obtain ⟨pa, ia, f1, f2, f3, f4, f5⟩ := X.person K hp'
    obtain ⟨m, m1, m0, m2, m3, m4⟩ := SR.press X N2
    have sw : ∀ p, p < 5 → _ := fun p hp => N2.saw N1.2 hp
    by_cases h0 : y = 0
    · subst h0
      refine ⟨σ.2.2.1 44 (10 + 2 * p), ?_, ?_, I'⟩
      · simp only [fX0_person, x_rcv, bsm, c1 M e0, if_neg n01, if_true, f1 M e0, f2 M e0]
      · have z := tg44 (σ := σ) (i := 10 + 2 * p + 0) (by omega)
        rw [Nat.add_zero] at z
        have z' : aI σ 44 (((10 : Int32) + ((2 : Int32) * nI p)) + 0) = some (σ.2.2.1 44 (10 + 2 * p)) := by
          rw [ki10, ki2, nI_mul, nI_add, show nI (10 + 2 * p) + 0 = nI (10 + 2 * p) from nI_add (10 + 2 * p) 0]
          exact z
        simp only [fX6_person, t1, bsm, if_neg n01, if_pos (show (0 : Int32) < 10 by decide), fX6_person_37, if_true, z']
    by_cases h1 : y = 1
    · subst h1
      refine ⟨σ.2.2.1 44 (11 + 2 * p), ?_, ?_, I'⟩
      · simp only [fX0_person, x_rcv, bsm, c1 M e0, if_neg n01, if_true, f1 M e0, f3 M e0]
      · have z' : aI σ 44 (((10 : Int32) + ((2 : Int32) * nI p)) + 1) = some (σ.2.2.1 44 (11 + 2 * p)) := by
          rw [ki10, ki2, nI_mul, nI_add, nI_1, tg44 (by omega)]
          exact congrArg (fun z => some (σ.2.2.1 44 z)) (by omega)
        simp only [fX6_person, t1, bsm, if_neg n01, if_pos (show (1 : Int32) < 10 by decide), fX6_person_37, if_true, z']
    by_cases h2 : y = 2
    · subst h2
      refine ⟨nI (m / 2 ^ p % 2), ?_, ?_, I'⟩
      · simp only [fX0_person, x_rcv, bsm, c1 M e0, if_neg n01, if_neg h0, if_neg h1, if_true, x_g9, s_g1 i0, m2, c_has K _ (show m < 2 ^ 31 by omega) (show p < 31 by omega)]
        rcases Nat.mod_two_eq_zero_or_one (m / 2 ^ p) with e | e <;> rw [e] <;> rfl
      · simp only [fX6_person, t1, bsm, if_neg n01, if_pos (show (2 : Int32) < 10 by decide), fX6_person_37, if_neg h0, if_neg h1, if_true, m3 p hp']
        rcases Nat.mod_two_eq_zero_or_one (m / 2 ^ p) with e | e <;> rw [e] <;> rfl
    by_cases h3 : y = 3
    · subst h3
      refine ⟨σ.2.2.1 54 (86 + 2 * p + 1), ?_, ?_, I'⟩
      · simp only [fX0_person, x_rcv, bsm, c1 M e0, if_neg n01, if_neg h0, if_neg h1, if_neg h2, if_true, x_g9, s_g5 i0, c_saw i0 (show p < 5 by omega), (sw p (by omega)).1]
      · simp only [fX6_person, t1, bsm, if_neg n01, if_pos (show (3 : Int32) < 10 by decide), fX6_person_37, if_neg h0, if_neg h1, if_neg h2, if_true, hoursOfT σ (show p < 5 by omega)]
    by_cases h10 : y < 10
    · refine ⟨-1, ?_, ?_, I'⟩
      · simp only [fX0_person, x_rcv, bsm, c1 M e0, if_neg n01, if_neg h0, if_neg h1, if_neg h2, if_neg h3, if_pos h10]
      · simp only [fX6_person, t1, bsm, if_neg n01, if_pos h10, fX6_person_37, if_neg h0, if_neg h1, if_neg h2, if_neg h3]
    rcases X.isKind K (y - 10) with ⟨k, hk, e, c2, t2⟩ | ⟨c2, t2⟩
    · refine ⟨σ.2.2.1 45 (30 + 6 * p + k), ?_, ?_, I'⟩
      · have c2' := c2 M e0
        rw [e] at c2'
        simp only [fX0_person, x_rcv, bsm, c1 M e0, if_neg n01, if_neg h0, if_neg h1, if_neg h2, if_neg h3, if_neg h10, e, c2', f1 M e0, f4 M e0, f5 M k e0 (show k < 6 by omega)]
      · rw [e] at t2
        simp only [fX6_person, t1, bsm, if_neg n01, if_neg h10, e, t2, fX6_likesOf, ki30, ki6, nI_mul, nI_add, tg45 (i := 30 + 6 * p + k) (by omega)]
    · refine ⟨-1, ?_, ?_, I'⟩
      · simp only [fX0_person, x_rcv, bsm, c1 M e0, if_neg n01, if_neg h0, if_neg h1, if_neg h2, if_neg h3, if_neg h10, c2 M e0, if_true]
      · simp only [fX6_person, t1, bsm, if_neg n01, if_neg h10, t2, if_true, fX6_person_37, if_neg h0, if_neg h1, if_neg h2, if_neg h3]
  · refine ⟨-1, ?_, ?_, I'⟩
    · simp only [fX0_person, x_rcv, bsm, c1 M e0, if_true]
    · simp only [fX6_person, t1, bsm, if_true]
/-- NONE or a person: by which profile -/
theorem who_pr (X : HX a M σ nk nf np pt vl vf vm) (x : Int32) : (∃ w, w ≤ np ∧ x + 1 = nI w ∧ 1 + x = nI w ∧ (x = -1 ∨ ¬ x = -1 ∧ fX0_isPerson K (hp a M) a x = some 1 ∧ fX6_isPerson σ x = some 1)) ∨ (¬ x = -1 ∧ fX0_isPerson K (hp a M) a x = some 0 ∧ fX6_isPerson σ x = some 0) := by
  by_cases h : x = -1
  · subst h
    exact Or.inl ⟨0, by omega, by decide, by decide, Or.inl rfl⟩
  · rcases X.isPers K x with ⟨p, hp', rfl, c1, t1⟩ | ⟨c1, t1⟩
    · exact Or.inl ⟨p + 1, by omega, nI_1 p, by rw [nI_1', Nat.add_comm], Or.inr ⟨h, c1 M (SameH.refl M), t1⟩⟩
    · exact Or.inr ⟨h, c1 M (SameH.refl M), t1⟩
theorem ps8 : PS8 K a (IV K a) := by
  intro h σ n x y hn I
  have I' := I.next
  obtain ⟨M, nk, nf, np, pt, vl, vf, vm, rfl, X, H, ⟨hr, π, kp, N1, N2, N3, N4⟩, E⟩ := I
  have b := X.bk
  have e0 := SameH.refl M
  have i0 : 0 < 22 := by omega
  obtain ⟨-, -, ts, -, -⟩ := id N2
  rcases who_pr (K := K) X x with ⟨w, hw, w1, w2, hx⟩ | ⟨h1, c1, t1⟩
  · have key : ∃ v, fX0_taste_13 K (hp a M) a x y = some v ∧ fX6_taste_13 σ x y = some v := by
      rcases X.isKind K y with ⟨k, hk, rfl, c2, t2⟩ | ⟨c2, t2⟩
      · refine ⟨σ.2.2.1 54 (2 + 14 * w + k), ?_, ?_⟩
        · simp only [fX0_taste_13, x_rcv, bsm, c2 M e0, if_neg n01, x_g9, s_g3 i0, w1, s_tasteO i0 (show w < 6 by omega), c_taste i0 (show w < 6 by omega) (show k < 6 by omega), (ts w k (by omega) (by omega)).1]
        · simp only [fX6_taste_13, t2, bsm, if_neg n01, fX6_tasteAt, w2, ki2, ki14, nI_mul, nI_add, tg54 (i := 2 + 14 * w + k) (by omega)]
      · exact ⟨-1, by simp only [fX0_taste_13, x_rcv, bsm, c2 M e0, if_true], by simp only [fX6_taste_13, t2, bsm, if_true, fX6_taste_21]⟩
    obtain ⟨v, k1, k2⟩ := key
    rcases hx with hx | ⟨hx, c1, t1⟩
    · exact ⟨v, by simp only [fX0_taste, if_pos hx, k1], by simp only [fX6_taste, if_pos hx, k2], I'⟩
    · exact ⟨v, by simp only [fX0_taste, if_neg hx, x_rcv, bsm, c1, if_neg n01, k1], by simp only [fX6_taste, if_neg hx, t1, bsm, if_neg n01, k2], I'⟩
  · exact ⟨-1, by simp only [fX0_taste, if_neg h1, x_rcv, bsm, c1, if_true], by simp only [fX6_taste, if_neg h1, t1, bsm, if_true, fX6_taste_21], I'⟩
theorem ps9 : PS9 K a (IV K a) := by
  intro h σ n x y hn I
  have I' := I.next
  obtain ⟨M, nk, nf, np, pt, vl, vf, vm, rfl, X, H, ⟨hr, π, kp, N1, N2, N3, N4⟩, E⟩ := I
  have b := X.bk
  have e0 := SameH.refl M
  have i0 : 0 < 22 := by omega
  obtain ⟨-, -, -, ts, -⟩ := id N2
  rcases who_pr (K := K) X x with ⟨w, hw, w1, w2, hx⟩ | ⟨h1, c1, t1⟩
  · have key : ∃ v, fX0_seen_13 K (hp a M) a x y = some v ∧ fX6_seen_13 σ x y = some v := by
      rcases X.isFilm K y with ⟨k, hk, rfl, c2, t2⟩ | ⟨c2, t2⟩
      · refine ⟨σ.2.2.1 54 (2 + 14 * w + 6 + k), ?_, ?_⟩
        · simp only [fX0_seen_13, x_rcv, bsm, c2 M e0, if_neg n01, x_g9, s_g4 i0, w1, s_seenO i0 (show w < 6 by omega), c_seen i0 (show w < 6 by omega) (show k < 8 by omega), (ts w k (by omega) (by omega)).1]
        · simp only [fX6_seen_13, t2, bsm, if_neg n01, fX6_seenBy, fX6_seenAt, w2, ki2, ki14, ki6, nI_mul, nI_add, tg54 (i := 2 + 14 * w + 6 + k) (by omega)]
      · exact ⟨-1, by simp only [fX0_seen_13, x_rcv, bsm, c2 M e0, if_true], by simp only [fX6_seen_13, t2, bsm, if_true, fX6_seen_21]⟩
    obtain ⟨v, k1, k2⟩ := key
    rcases hx with hx | ⟨hx, c1, t1⟩
    · exact ⟨v, by simp only [fX0_seen, if_pos hx, k1], by simp only [fX6_seen, if_pos hx, k2], I'⟩
    · exact ⟨v, by simp only [fX0_seen, if_neg hx, x_rcv, bsm, c1, if_neg n01, k1], by simp only [fX6_seen, if_neg hx, t1, bsm, if_neg n01, k2], I'⟩
  · exact ⟨-1, by simp only [fX0_seen, if_neg h1, x_rcv, bsm, c1, if_true], by simp only [fX6_seen, if_neg h1, t1, bsm, if_true, fX6_seen_21], I'⟩
theorem ps11 : PS11 K a (IV K a) := by
  intro h σ n x y hn I
  have I' := I.next
  obtain ⟨M, nk, nf, np, pt, vl, vf, vm, rfl, X, H, N, E⟩ := I
  have e0 := SameH.refl M
  rcases X.isPers K x with ⟨p, hp', rfl, c1, t1⟩ | ⟨c1, t1⟩
  · rcases X.isFilm K y with ⟨f, hf, rfl, c2, t2⟩ | ⟨c2, t2⟩
    · exact ⟨wv σ nk p f, by simp only [fX0_worth, x_rcv, bsm, c1 M e0, if_neg n01, c2 M e0, X.worthC hp' hf e0], by simp only [fX6_worth, t1, bsm, if_neg n01, t2, X.worthT hp' hf], I'⟩
    · exact ⟨-1, by simp only [fX0_worth, x_rcv, bsm, c1 M e0, if_neg n01, c2 M e0, if_true], by simp only [fX6_worth, t1, bsm, if_neg n01, t2, if_true], I'⟩
  · exact ⟨-1, by simp only [fX0_worth, x_rcv, bsm, c1 M e0, if_true], by simp only [fX6_worth, t1, bsm, if_true], I'⟩
/-- a number from nought up to n - 1, as both ask for it -/
theorem rng (K : KE) (h : HS) (σ : MS) {n : Nat} (hn : n < 2 ^ 31) (x : Int32) : (∃ k, k < n ∧ x = nI k ∧ fX0_is K h x 0 (nI n - 1) = some 1 ∧ fX6_isIn σ x.toInt64 0 (nI n - 1).toInt64 = some 1) ∨ (fX0_is K h x 0 (nI n - 1) = some 0 ∧ fX6_isIn σ x.toInt64 0 (nI n - 1).toInt64 = some 0) := by
  rw [lk0, t_is, c_is]
  simp only [sub1_lt hn]
  rcases pk_ix x hn with h | h | ⟨j, h, rfl⟩
  · exact Or.inr ⟨if_pos (Or.inl h), if_pos (Or.inl h)⟩
  · exact Or.inr ⟨if_pos (Or.inr h), if_pos (Or.inr h)⟩
  · have h1 := nI_pos (n := j) (by omega)
    have h2 := nI_ge h hn
    exact Or.inl ⟨j, h, rfl, if_neg (fun q => q.elim h1 h2), if_neg (fun q => q.elim h1 h2)⟩
theorem ps12 : PS12 K a (IV K a) := by
  intro h σ n x y hn I
  have I' := I.next
  obtain ⟨M, nk, nf, np, pt, vl, vf, vm, rfl, X, H, ⟨hr, π, kp, N1, N2, N3, N4⟩, E⟩ := I
  have i0 : 0 < 22 := by omega
  have hk := N3.1
  have z : aI σ 54 (96 : Int32) = some (nI kp) := by rw [ki96, tg54 (by omega), N4.1]
  rcases rng K (hp a M) σ (show kp < 2 ^ 31 by omega) x with ⟨k, h1, rfl, c1, t1⟩ | ⟨c1, t1⟩
  · rcases rng K (hp a M) σ (show 4 < 2 ^ 31 by omega) y with ⟨j, h2, rfl, c2, t2⟩ | ⟨c2, t2⟩
    · have c2' : fX0_is K (hp a M) (nI j) 0 3 = some 1 := c2
      have t2' : fX6_isIn σ (nI j).toInt64 0 3 = some 1 := t2
      refine ⟨σ.2.2.1 54 (97 + 4 * k + j), ?_, ?_, I'⟩
      · simp only [fX0_kept, x_g9, bsm, s_g2 i0, N3.2.1, c1, if_neg n01, c2', s_g6 i0, c_rows i0 (show k < 40 by omega), (N3.2.2.1 k (by omega)).2, c_row i0 (N3.2.2.1 k (by omega)).1 h2, N4.2 k j h1 h2]
      · simp only [fX6_kept, z, bsm, t1, if_neg n01, t2', ki97, ki4, nI_mul, nI_add, tg54 (i := 97 + 4 * k + j) (by omega)]
    · have c2' : fX0_is K (hp a M) y 0 3 = some 0 := c2
      have t2' : fX6_isIn σ y.toInt64 0 3 = some 0 := t2
      refine ⟨-1, ?_, ?_, I'⟩
      · simp only [fX0_kept, x_g9, bsm, s_g2 i0, N3.2.1, c1, if_neg n01, c2', if_true]
      · simp only [fX6_kept, z, bsm, t1, if_neg n01, t2', if_true]
  · refine ⟨-1, ?_, ?_, I'⟩
    · simp only [fX0_kept, x_g9, bsm, s_g2 i0, N3.2.1, c1, if_true]
    · simp only [fX6_kept, z, bsm, t1, if_true]
theorem ps34 : PS34 K a (IV K a) := by
  intro h σ n x hn I
  have I' := I.next
  obtain ⟨M, nk, nf, np, pt, vl, vf, vm, rfl, X, H, N, E⟩ := I
  obtain ⟨-, -, -, -, zr', -⟩ := E
  rcases rng K (hp a M) σ (show 6 < 2 ^ 31 by omega) x with ⟨k, h1, rfl, c1, t1⟩ | ⟨c1, t1⟩
  · have c1' : fX0_is K (hp a M) (nI k) 0 5 = some 1 := c1
    have t1' : fX6_isIn σ (nI k).toInt64 0 5 = some 1 := t1
    exact ⟨σ.2.2.1 9 k, by simp only [fX0_status, c1', bsm, if_neg n01, x_g8, c_refs h1, zr' k h1], by simp only [fX6_status, t1', bsm, if_neg n01, tg9 h1], I'⟩
  · have c1' : fX0_is K (hp a M) x 0 5 = some 0 := c1
    have t1' : fX6_isIn σ x.toInt64 0 5 = some 0 := t1
    exact ⟨-1, by simp only [fX0_status, c1', bsm, if_true], by simp only [fX6_status, t1', bsm, if_true], I'⟩
theorem ps32 : PS32 K a (IV K a) := by
  intro h σ n x hn I
  have I' := I.next
  obtain ⟨M, nk, nf, np, pt, vl, vf, vm, rfl, X, H, N, E⟩ := I
  obtain ⟨-, -, -, -, -, -, -, ⟨oc, z1, z2, z3, z4⟩, -⟩ := E
  rcases pk_ix x (n := oc) (by omega) with h | h | ⟨k, h, rfl⟩
  · exact ⟨-1, by simp only [fX0_octet, if_pos h, fX0_octet_12], by simp only [fX6_octet, if_pos h], I'⟩
  · by_cases h0 : x < 0
    · exact ⟨-1, by simp only [fX0_octet, if_pos h0, fX0_octet_12], by simp only [fX6_octet, if_pos h0], I'⟩
    · have h1 : ¬ x < nI oc := by rw [Int32.lt_iff_toInt_lt]; rw [Int32.le_iff_toInt_le] at h; omega
      exact ⟨-1, by simp only [fX0_octet, if_neg h0, x_g21, bsm, z2, if_neg h1, fX0_octet_12], by simp only [fX6_octet, if_neg h0, z3, if_pos h], I'⟩
  · obtain ⟨c, c1, c2, c3⟩ := z4 k h
    have h0 : ¬ nI k < 0 := nI_pos (by omega)
    have h1 : nI k < nI oc := nI_lt h (by omega)
    have h2 : ¬ nI oc ≤ nI k := nI_ge h (by omega)
    exact ⟨nI c, by simp only [fX0_octet, if_neg h0, x_g21, bsm, z2, if_pos h1, x_g20, c_out (show k < 139 by omega), c3], by simp only [fX6_octet, if_neg h0, z3, if_neg h2, tg101 (show k < 139 by omega), bsm, c2], I'⟩
end PRO

/-! PLAIN LAW, who, sofas, shares -/
set_option maxRecDepth 100000
section PSO
variable {K : KE} {a i n k f p m nk nf np hr : Nat} {M M' : CM} {σ σ' : MS} {pt : Nat → Nat} {vl vf vm : Option Nat}
theorem ps19 : PS19 K a (IV K a) := by
  intro h σ n x y z hn I
  have I' := I.next
  obtain ⟨M, nk, nf, np, pt, vl, vf, vm, rfl, X, H, N, E⟩ := I
  have b := X.bk
  have e0 := SameH.refl M
  rcases X.isPers K x with ⟨p, hp', rfl, c1, t1⟩ | ⟨c1, t1⟩
  rotate_left
  · exact ⟨-1, by simp only [fX0_who, x_rcv, bsm, c1 M e0, if_true], by simp only [fX6_who, t1, bsm, if_true], I'⟩
  rcases X.isFilm K y with ⟨f, hf, rfl, c2, t2⟩ | ⟨c2, t2⟩
  rotate_left
  · exact ⟨-1, by simp only [fX0_who, x_rcv, bsm, c1 M e0, if_neg n01, c2 M e0, if_true], by simp only [fX6_who, t1, bsm, if_neg n01, t2, if_true], I'⟩
  rcases rng K (hp a M) σ (show 24 < 2 ^ 31 by omega) z with ⟨k, h1, rfl, c3, t3⟩ | ⟨c3, t3⟩
  rotate_left
  · have c3' : fX0_is K (hp a M) z 0 23 = some 0 := c3
    have t3' : fX6_isIn σ z.toInt64 0 23 = some 0 := t3
    exact ⟨-1, by simp only [fX0_who, x_rcv, bsm, c1 M e0, if_neg n01, c2 M e0, c3', if_true], by simp only [fX6_who, t1, bsm, if_neg n01, t2, t3', if_true], I'⟩
  have c3' : fX0_is K (hp a M) (nI k) 0 23 = some 1 := c3
  have t3' : fX6_isIn σ (nI k).toInt64 0 23 = some 1 := t3
  have key : ∃ v, fX0_who_34 K (hp a M) a FU (nI p) (nI f) (nI k) 0 0 = some v ∧ fX6_who_36 σ FU (nI p) (nI f) (nI k) 0 0 = some v := by
    refine lp2z (F := fun n (x : Int64) i => fX0_who_34 K (hp a M) a n (nI p) (nI f) (nI k) x i) (G := fun n (y : Int64) i => fX6_who_36 σ n (nI p) (nI f) (nI k) y i) (N := np) (I := fun _ x y => x = y) (P := fun r r' => ∃ v, r = some v ∧ r' = some v) (by omega) rfl ?_ ?_
    · rintro n m x y q hq rfl
      have kk := nI_ge hq (show np < 2 ^ 31 by omega)
      obtain ⟨fv, f1, f2, f3⟩ := X.free K hq (nI k)
      refine Or.inl ?_
      rcases f3 with f3 | f3
      · refine ⟨x, x, rfl, ?_, ?_⟩
        · simp only [fX0_who_34, x_rcv, bsm, X.people e0, if_neg kk, f1 M e0, if_pos f3, fX0_who_69, nI_1, Int64.add_zero]
        · simp only [fX6_who_36, X.persM, bsm, if_neg kk, f2, if_pos f3, fX6_who_70, nI_1]
      · have f4 : ¬ fv = 0 := by rw [f3]; decide
        refine ⟨x + (wv σ nk q f + 1).toInt64, x + (wv σ nk q f + 1).toInt64, rfl, ?_, ?_⟩
        · simp only [fX0_who_34, x_rcv, bsm, X.people e0, if_neg kk, f1 M e0, if_neg f4, X.worthC hq hf e0, fX0_who_69, nI_1]
        · simp only [fX6_who_36, X.persM, bsm, if_neg kk, f2, if_neg f4, X.worthT hq hf, fX6_who_70, nI_1]
    · rintro n m x y rfl
      have kk := nI_le (Nat.le_refl np) (show np < 2 ^ 31 by omega)
      obtain ⟨fv, f1, f2, f3⟩ := X.free K hp' (nI k)
      by_cases h0 : x = 0
      · exact ⟨-1, by simp only [fX0_who_34, x_rcv, bsm, X.people e0, if_pos kk, if_pos h0], by simp only [fX6_who_36, X.persM, bsm, if_pos kk, if_pos h0]⟩
      · rcases f3 with f3 | f3
        · exact ⟨0, by simp only [fX0_who_34, x_rcv, bsm, X.people e0, if_pos kk, if_neg h0, f1 M e0, if_pos f3], by simp only [fX6_who_36, X.persM, bsm, if_pos kk, if_neg h0, f2, if_pos f3]⟩
        · have f4 : ¬ fv = 0 := by rw [f3]; decide
          obtain ⟨q, q1, q2⟩ := X.worthB hp' hf
          have z1 : nzl x = some x := by unfold nzl; rw [if_neg h0]
          refine ⟨(1000000 * (wv σ nk p f + 1).toInt64 / x).toInt32, ?_, ?_⟩
          · have z2 : (wv σ nk p f).toInt64 + 1 = (wv σ nk p f + 1).toInt64 := by
              rw [q2, nI_1, nI_l (by omega), nI_l (by omega)]
              exact (Int64.ofNat_add q 1).symm
            simp only [fX0_who_34, x_rcv, bsm, X.people e0, if_pos kk, if_neg h0, f1 M e0, if_neg f4, X.worthC hp' hf e0, z1, z2, Int64.mul_comm _ (1000000 : Int64)]
          · simp only [fX6_who_36, X.persM, bsm, if_pos kk, if_neg h0, f2, if_neg f4, X.worthT hp' hf, z1]
  obtain ⟨v, k1, k2⟩ := key
  exact ⟨v, by simp only [fX0_who, x_rcv, bsm, c1 M e0, if_neg n01, c2 M e0, c3', k1], by simp only [fX6_who, t1, bsm, if_neg n01, t2, t3', k2], I'⟩
theorem first_ok (X : HX a M σ nk nf np pt vl vf vm) (hp' : p < np) (h0 : 0 < nf) : ∃ v, fX0_firstFilm K (hp a M) a (nI p) = some v ∧ fX6_firstOf σ (nI p) = some v := by
  have b := X.bk
  have e0 := SameH.refl M
  refine lpB (F := fun n (x : Int32) i => fX0_firstFilm_4 K (hp a M) a n (nI p) x i) (G := fun n (y : Int32) i => fX6_firstOf_4 σ n (nI p) y i) (N := nf) (I := fun _ x y => ∃ f, f < nf ∧ x = nI f ∧ y = nI f) (P := fun r r' => ∃ v, r = some v ∧ r' = some v) ?_ ?_ (nf - 1) 1 (by omega) FU FU 0 0 (FU_lt (by omega)) (FU_lt (by omega)) ⟨0, h0, rfl, rfl⟩
  · rintro n m x y k hk ⟨f, hf, rfl, rfl⟩
    have kk := nI_ge hk (show nf < 2 ^ 31 by omega)
    refine Or.inl ?_
    by_cases hl : wv σ nk p k ≤ wv σ nk p f
    · refine ⟨nI f, nI f, ⟨f, hf, rfl, rfl⟩, ?_, ?_⟩
      · simp only [fX0_firstFilm_4, x_rcv, bsm, X.films e0, if_neg kk, X.worthC hp' hk e0, X.worthC hp' hf e0, if_pos hl, fX0_firstFilm_29, nI_1]
      · simp only [fX6_firstOf_4, X.filmM, bsm, if_neg kk, X.worthT hp' hk, X.worthT hp' hf, if_pos hl, fX6_firstOf_29, nI_1]
    · refine ⟨nI k, nI k, ⟨k, hk, rfl, rfl⟩, ?_, ?_⟩
      · simp only [fX0_firstFilm_4, x_rcv, bsm, X.films e0, if_neg kk, X.worthC hp' hk e0, X.worthC hp' hf e0, if_neg hl, fX0_firstFilm_29, nI_1]
      · simp only [fX6_firstOf_4, X.filmM, bsm, if_neg kk, X.worthT hp' hk, X.worthT hp' hf, if_neg hl, fX6_firstOf_29, nI_1]
  · rintro n m x y ⟨f, hf, rfl, rfl⟩
    have kk := nI_le (Nat.le_refl nf) (show nf < 2 ^ 31 by omega)
    exact ⟨nI f, by simp only [fX0_firstFilm_4, x_rcv, bsm, X.films e0, if_pos kk], by simp only [fX6_firstOf_4, X.filmM, bsm, if_pos kk]⟩
theorem no_bits : ∀ n, n < 6 → ∀ m, m < 32 → m < 2 ^ n → (∀ p, p < n → m / 2 ^ p % 2 = 0) → m = 0 := by decide +kernel
/-- three sums of the twin against the one of the rule -/
def TG3 (r x s l v : Int32) (m k : Nat) : Prop := (r = 0 → x = s) ∧ (r = 2 → x = v) ∧ (r = 1 → (x = 100000000 ∧ l = -1 ∧ ∀ p, p < k → m / 2 ^ p % 2 = 0) ∨ ∃ q, q ≤ 486 ∧ x = nI q ∧ l = nI q) ∧ (l = -1 ∨ ∃ q, q ≤ 486 ∧ l = nI q)
theorem together_ok (X : HX a M σ nk nf np pt vl vf vm) (hf : f < nf) (hm : m < 32) (hm0 : 0 < m) (hm2 : m < 2 ^ np) {r : Int32} (hr' : r = 0 ∨ r = 1 ∨ r = 2) : ∃ v, fX0_together K (hp a M) a (nI m) r (nI f) = some v ∧ fX6_byRule σ (nI m) (nI f) r = some v := by
  have b := X.bk
  have e0 := SameH.refl M
  have st : ∀ x0 : Int32, (r = 1 → x0 = 100000000) → (¬ r = 1 → x0 = 0) → ∃ v, fX0_together_17 K (hp a M) a FU (nI m) r (nI f) x0 0 = some v ∧ fX6_byRule_12 σ FU (nI m) (nI f) r 0 (-1) 0 0 = some v := by
    intro x0 hx1 hx2
    refine lp2z (F := fun n (x : Int32) i => fX0_together_17 K (hp a M) a n (nI m) r (nI f) x i) (G := fun n (y : Int32 × Int32 × Int32) i => fX6_byRule_12 σ n (nI m) (nI f) r y.1 y.2.1 y.2.2 i) (N := np) (y := (0, -1, 0)) (I := fun k x y => TG3 r x y.1 y.2.1 y.2.2 m k) (P := fun r r' => ∃ v, r = some v ∧ r' = some v) (by omega) ?_ ?_ ?_
    · refine ⟨fun h => ?_, fun h => ?_, fun h => Or.inl ⟨hx1 h, rfl, fun p hp => absurd hp (by omega)⟩, Or.inl rfl⟩
      · exact hx2 (by rw [h]; decide)
      · exact hx2 (by rw [h]; decide)
    · rintro n m' x ⟨s, l, v⟩ k hk ⟨j0, j2, j1, jl⟩
      dsimp only at j0 j1 j2 jl
      have kk := nI_ge hk (show np < 2 ^ 31 by omega)
      have hb := bit_m (m := m) (p := k) (by omega) (by omega)
      have hc := c_has K (hp a M) (m := m) (p := k) (by omega) (by omega)
      refine Or.inl ?_
      rcases Nat.mod_two_eq_zero_or_one (m / 2 ^ k) with e | e
      · rw [e] at hb hc
        have hb0 : ((nI m >>> (nI k &&& 31)) &&& 1) = 0 := hb
        refine ⟨x, (s, l, v), ⟨j0, j2, fun h => ?_, jl⟩, ?_, ?_⟩
        · rcases j1 h with ⟨q1, q2, q3⟩ | q
          · refine Or.inl ⟨q1, q2, fun p hp => ?_⟩
            by_cases hpk : p = k
            · rw [hpk]; exact e
            · exact q3 p (by omega)
          · exact Or.inr q
        · simp only [fX0_together_17, x_rcv, bsm, X.people e0, if_neg kk, hc, nI_0, if_true, fX0_together_94, nI_1]
        · simp only [fX6_byRule_12, X.persM, bsm, if_neg kk, if_pos hb0, fX6_byRule_79, nI_1]
      · rw [e] at hb hc
        have hb0 : ¬ ((nI m >>> (nI k &&& 31)) &&& 1) = 0 := by rw [hb]; decide
        have n1 : ¬ nI 1 = 0 := by decide
        obtain ⟨w, w1, w2⟩ := X.worthB hk hf
        obtain ⟨vf', u1, u2⟩ := first_ok (K := K) X hk (show 0 < nf by omega)
        -- the twin's step
        have tt : ∃ l' v', (l = -1 → l' = nI w) ∧ (∀ q, q ≤ 486 → l = nI q → l' = (if q ≤ w then nI q else nI w)) ∧ v' = (if vf' = nI f then v + 1 else v) ∧ fX6_byRule_12 σ (m' + 1) (nI m) (nI f) r s l v (nI k) = fX6_byRule_12 σ m' (nI m) (nI f) r (s + nI w) l' v' (nI (k + 1)) := by
          by_cases hl : l = -1
          · refine ⟨nI w, _, fun _ => rfl, fun q hq h => ?_, rfl, ?_⟩
            · exfalso
              rw [hl] at h
              have := nI_eqm (a := q) (by omega)
              rw [h] at this
              simp at this
            · by_cases hv : vf' = nI f
              · simp only [fX6_byRule_12, X.persM, bsm, if_neg kk, if_neg hb0, X.worthT hk hf, w2, if_pos hl, fX6_byRule_62, fX6_byRule_66, u2, if_pos hv, fX6_byRule_79, nI_1]
              · simp only [fX6_byRule_12, X.persM, bsm, if_neg kk, if_neg hb0, X.worthT hk hf, w2, if_pos hl, fX6_byRule_62, fX6_byRule_66, u2, if_neg hv, fX6_byRule_79, nI_1]
          · obtain ⟨q, q1, rfl⟩ := jl.resolve_left hl
            refine ⟨if q ≤ w then nI q else nI w, _, fun h => absurd h hl, fun q' hq' h => ?_, rfl, ?_⟩
            · rw [nI_eqE (by omega) (by omega)] at h
              rw [h]
            · by_cases hqw : q ≤ w
              · have lw : nI q ≤ nI w := nI_le hqw (by omega)
                by_cases hv : vf' = nI f
                · simp only [fX6_byRule_12, X.persM, bsm, if_neg kk, if_neg hb0, X.worthT hk hf, w2, if_neg hl, if_pos lw, if_pos hqw, fX6_byRule_66, u2, if_pos hv, fX6_byRule_79, nI_1]
                · simp only [fX6_byRule_12, X.persM, bsm, if_neg kk, if_neg hb0, X.worthT hk hf, w2, if_neg hl, if_pos lw, if_pos hqw, fX6_byRule_66, u2, if_neg hv, fX6_byRule_79, nI_1]
              · have lw : ¬ nI q ≤ nI w := by rw [nI_leE (by omega) (by omega)]; exact hqw
                by_cases hv : vf' = nI f
                · simp only [fX6_byRule_12, X.persM, bsm, if_neg kk, if_neg hb0, X.worthT hk hf, w2, if_neg hl, if_neg lw, if_neg hqw, fX6_byRule_62, fX6_byRule_66, u2, if_pos hv, fX6_byRule_79, nI_1]
                · simp only [fX6_byRule_12, X.persM, bsm, if_neg kk, if_neg hb0, X.worthT hk hf, w2, if_neg hl, if_neg lw, if_neg hqw, fX6_byRule_62, fX6_byRule_66, u2, if_neg hv, fX6_byRule_79, nI_1]
        obtain ⟨l', v', l1, l2, v1, te⟩ := tt
        have jl' : l' = -1 ∨ ∃ q, q ≤ 486 ∧ l' = nI q := by
          rcases jl with h | ⟨q, q1, q2⟩
          · exact Or.inr ⟨w, w1, l1 h⟩
          · refine Or.inr ?_
            rw [l2 q q1 q2]
            split
            · exact ⟨q, q1, rfl⟩
            · exact ⟨w, w1, rfl⟩
        rcases hr' with h | h | h
        · subst h
          refine ⟨x + nI w, (s + nI w, l', v'), ⟨fun _ => by rw [j0 rfl], fun h => absurd h (by decide), fun h => absurd h (by decide), jl'⟩, ?_, te⟩
          simp only [fX0_together_17, x_rcv, bsm, X.people e0, if_neg kk, hc, if_neg n1, X.worthC hk hf e0, w2, if_true, fX0_together_92, fX0_together_94, nI_1]
        · subst h
          have n10 : ¬ (1 : Int32) = 0 := by decide
          have mn : ∃ x', fJ12_min K (hp a M) x (nI w) = some x' ∧ ∃ q, q ≤ 486 ∧ x' = nI q ∧ l' = nI q := by
            rcases j1 rfl with ⟨q1, q2, q3⟩ | ⟨q, q1, q2, q3⟩
            · refine ⟨nI w, ?_, w, w1, rfl, l1 q2⟩
              unfold fJ12_min
              have lw : nI w < (100000000 : Int32) := nI_lt (b := 100000000) (by omega) (by omega)
              rw [q1, if_pos lw]
            · refine ⟨if q ≤ w then nI q else nI w, ?_, ?_⟩
              · unfold fJ12_min
                rw [q2]
                by_cases hqw : q ≤ w
                · rw [if_neg (nI_nlt hqw (by omega)), if_pos hqw]
                · rw [if_pos (nI_lt (by omega) (by omega)), if_neg hqw]
              · rw [l2 q q1 q3]
                split
                · exact ⟨q, q1, rfl, rfl⟩
                · exact ⟨w, w1, rfl, rfl⟩
          obtain ⟨x', x1, q, q1, q2, q3⟩ := mn
          refine ⟨x', (s + nI w, l', v'), ⟨fun h => absurd h (by decide), fun h => absurd h (by decide), fun _ => Or.inr ⟨q, q1, q2, q3⟩, jl'⟩, ?_, te⟩
          simp only [fX0_together_17, x_rcv, bsm, X.people e0, if_neg kk, hc, if_neg n1, X.worthC hk hf e0, w2, if_neg n10, if_true, x1, fX0_together_92, fX0_together_94, nI_1]
        · subst h
          have n20 : ¬ (2 : Int32) = 0 := by decide
          have n21 : ¬ (2 : Int32) = 1 := by decide
          refine ⟨if vf' = nI f then x + 1 else x, (s + nI w, l', v'), ⟨fun h => absurd h (by decide), fun _ => by rw [v1, j2 rfl], fun h => absurd h (by decide), jl'⟩, ?_, te⟩
          by_cases hv : vf' = nI f
          · simp only [fX0_together_17, x_rcv, bsm, X.people e0, if_neg kk, hc, if_neg n1, X.worthC hk hf e0, w2, if_neg n20, if_neg n21, u1, if_pos hv, fX0_together_91, fX0_together_92, fX0_together_94, nI_1]
          · simp only [fX0_together_17, x_rcv, bsm, X.people e0, if_neg kk, hc, if_neg n1, X.worthC hk hf e0, w2, if_neg n20, if_neg n21, u1, if_neg hv, fX0_together_91, fX0_together_92, fX0_together_94, Int32.add_zero, nI_1]
    · rintro n m' x ⟨s, l, v⟩ ⟨j0, j2, j1, jl⟩
      dsimp only at j0 j1 j2 jl
      have kk := nI_le (Nat.le_refl np) (show np < 2 ^ 31 by omega)
      refine ⟨x, by simp only [fX0_together_17, x_rcv, bsm, X.people e0, if_pos kk], ?_⟩
      rcases hr' with h | h | h
      · simp only [fX6_byRule_12, X.persM, bsm, if_pos kk, if_pos h, j0 h]
      · have h0 : ¬ r = 0 := by rw [h]; decide
        rcases j1 h with ⟨q1, q2, q3⟩ | ⟨q, q1, q2, q3⟩
        · have := no_bits np (by omega) m hm hm2 q3
          omega
        · simp only [fX6_byRule_12, X.persM, bsm, if_pos kk, if_neg h0, if_pos h, q2, q3]
      · have h0 : ¬ r = 0 := by rw [h]; decide
        have h1 : ¬ r = 1 := by rw [h]; decide
        simp only [fX6_byRule_12, X.persM, bsm, if_pos kk, if_neg h0, if_neg h1, j2 h]
  by_cases h1 : r = 1
  · obtain ⟨v, v1, v2⟩ := st 100000000 (fun _ => rfl) (fun h => absurd h1 h)
    exact ⟨v, by simp only [fX0_together, if_pos h1, fX0_together_12]; exact v1, v2⟩
  · obtain ⟨v, v1, v2⟩ := st 0 (fun h => absurd h h1) (fun _ => rfl)
    exact ⟨v, by simp only [fX0_together, if_neg h1, fX0_together_12]; exact v1, v2⟩
theorem pw5 : ∀ n, n < 6 → 2 ^ n ≤ 32 ∧ 0 < 2 ^ n := by decide +kernel
theorem ps20 : PS20 K a (IV K a) := by
  intro h σ n x y hn I
  have I' := I.next
  obtain ⟨M, nk, nf, np, pt, vl, vf, vm, rfl, X, H, N, E⟩ := I
  have b := X.bk
  have e0 := SameH.refl M
  have hs := shl1 np (by omega)
  obtain ⟨w1, w2⟩ := pw5 np (by omega)
  have kT : fX6_isIn σ x.toInt64 (1 : Int64) (nI (2 ^ np) - 1).toInt64 = if x < 1 ∨ nI (2 ^ np) ≤ x then some 0 else some 1 := by
    rw [lk1, t_is]
    simp only [sub1_lt (show 2 ^ np < 2 ^ 31 by omega)]
  by_cases h1 : x < 1
  · refine ⟨-1, by simp only [fX0_sofa, if_pos h1], ?_, I'⟩
    simp only [fX6_sofa, X.persM, bsm, hs, kT, if_pos (show x < 1 ∨ nI (2 ^ np) ≤ x from Or.inl h1), if_true]
  by_cases h2 : nI (2 ^ np) ≤ x
  · refine ⟨-1, by simp only [fX0_sofa, if_neg h1, x_rcv, bsm, X.people e0, hs, if_pos h2], ?_, I'⟩
    simp only [fX6_sofa, X.persM, bsm, hs, kT, if_pos (show x < 1 ∨ nI (2 ^ np) ≤ x from Or.inr h2), if_true]
  have hx : ∃ m, 0 < m ∧ m < 2 ^ np ∧ x = nI m := by
    rcases pk_ix x (n := 2 ^ np) (by omega) with q | q | ⟨j, q, rfl⟩
    · exfalso
      rw [Int32.lt_iff_toInt_lt] at q h1
      have z0 : (0 : Int32).toInt = 0 := by decide
      have z1 : (1 : Int32).toInt = 1 := by decide
      omega
    · exact absurd q h2
    · refine ⟨j, ?_, q, rfl⟩
      rcases Nat.eq_zero_or_pos j with z | z
      · exfalso
        rw [z] at h1
        exact h1 (by decide)
      · exact z
  obtain ⟨m, m0, m1, rfl⟩ := hx
  have kT1 : fX6_isIn σ (nI m).toInt64 (1 : Int64) (nI (2 ^ np) - 1).toInt64 = some 1 := by rw [kT, if_neg (fun q => q.elim h1 h2)]
  rcases rng K (hp a M) σ (show 3 < 2 ^ 31 by omega) y with ⟨j, j1, rfl, c3, t3⟩ | ⟨c3, t3⟩
  rotate_left
  · have c3' : fX0_is K (hp a M) y 0 2 = some 0 := c3
    have t3' : fX6_isIn σ y.toInt64 0 2 = some 0 := t3
    exact ⟨-1, by simp only [fX0_sofa, if_neg h1, x_rcv, bsm, X.people e0, hs, if_neg h2, c3', if_true], by simp only [fX6_sofa, X.persM, bsm, hs, kT1, if_neg n01, t3', if_true], I'⟩
  have c3' : fX0_is K (hp a M) (nI j) 0 2 = some 1 := c3
  have t3' : fX6_isIn σ (nI j).toInt64 0 2 = some 1 := t3
  have hj : nI j = 0 ∨ nI j = 1 ∨ nI j = 2 := by
    rcases (show j = 0 ∨ j = 1 ∨ j = 2 by omega) with q | q | q <;> subst q
    · exact Or.inl rfl
    · exact Or.inr (Or.inl rfl)
    · exact Or.inr (Or.inr rfl)
  have key : ∃ v, fX0_sofa_31 K (hp a M) a FU (nI m) (nI j) (-1) 0 = some v ∧ fX6_sofa_37 σ FU (nI m) (nI j) (-1) 0 = some v := by
    refine lp2z (F := fun n (x : Int32) i => fX0_sofa_31 K (hp a M) a n (nI m) (nI j) x i) (G := fun n (y : Int32) i => fX6_sofa_37 σ n (nI m) (nI j) y i) (N := nf) (I := fun _ x y => x = y ∧ (x = -1 ∨ ∃ f, f < nf ∧ x = nI f)) (P := fun r r' => ∃ v, r = some v ∧ r' = some v) (by omega) ⟨rfl, Or.inl rfl⟩ ?_ ?_
    · rintro n m' x y k hk ⟨rfl, hx⟩
      have kk := nI_ge hk (show nf < 2 ^ 31 by omega)
      refine Or.inl ?_
      by_cases hv : x = -1
      · refine ⟨nI k, nI k, ⟨rfl, Or.inr ⟨k, hk, rfl⟩⟩, ?_, ?_⟩
        · simp only [fX0_sofa_31, x_rcv, bsm, X.films e0, if_neg kk, if_pos hv, fX0_sofa_63, fX0_sofa_66, nI_1]
        · simp only [fX6_sofa_37, X.filmM, bsm, if_neg kk, if_pos hv, fX6_sofa_69, fX6_sofa_72, nI_1]
      · obtain ⟨f, hf, rfl⟩ := hx.resolve_left hv
        obtain ⟨v1, p1, p2⟩ := together_ok (K := K) X hk (show m < 32 by omega) m0 m1 hj
        obtain ⟨v2, p3, p4⟩ := together_ok (K := K) X hf (show m < 32 by omega) m0 m1 hj
        by_cases hl : v1 ≤ v2
        · refine ⟨nI f, nI f, ⟨rfl, Or.inr ⟨f, hf, rfl⟩⟩, ?_, ?_⟩
          · simp only [fX0_sofa_31, x_rcv, bsm, X.films e0, if_neg kk, if_neg hv, p1, p3, if_pos hl, fX0_sofa_66, nI_1]
          · simp only [fX6_sofa_37, X.filmM, bsm, if_neg kk, if_neg hv, p2, p4, if_pos hl, fX6_sofa_72, nI_1]
        · refine ⟨nI k, nI k, ⟨rfl, Or.inr ⟨k, hk, rfl⟩⟩, ?_, ?_⟩
          · simp only [fX0_sofa_31, x_rcv, bsm, X.films e0, if_neg kk, if_neg hv, p1, p3, if_neg hl, fX0_sofa_63, fX0_sofa_66, nI_1]
          · simp only [fX6_sofa_37, X.filmM, bsm, if_neg kk, if_neg hv, p2, p4, if_neg hl, fX6_sofa_69, fX6_sofa_72, nI_1]
    · rintro n m' x y ⟨rfl, hx⟩
      have kk := nI_le (Nat.le_refl nf) (show nf < 2 ^ 31 by omega)
      exact ⟨x, by simp only [fX0_sofa_31, x_rcv, bsm, X.films e0, if_pos kk], by simp only [fX6_sofa_37, X.filmM, bsm, if_pos kk]⟩
  obtain ⟨v, k1, k2⟩ := key
  exact ⟨v, by simp only [fX0_sofa, if_neg h1, x_rcv, bsm, X.people e0, hs, if_neg h2, c3', if_neg n01, k1], by simp only [fX6_sofa, X.persM, bsm, hs, kT1, if_neg n01, t3', k2], I'⟩
theorem ps21 : PS21 K a (IV K a) := by
  intro h σ n x hn I
  have I' := I.next
  obtain ⟨M, nk, nf, np, pt, vl, vf, vm, rfl, X, H, ⟨hr, π, kp, N1, N2, N3, N4⟩, E⟩ := I
  have b := X.bk
  have e0 := SameH.refl M
  have i0 : 0 < 22 := by omega
  have sw : ∀ p, p < 5 → _ := fun p hp => N2.saw N1.2 hp
  obtain ⟨ha, g0, g2, g3, -⟩ := X.set K
  have z47 : aI σ 47 (5 : Int32) = some (σ.2.2.1 47 5) := by rw [ki5, tg47 (by omega)]
  rcases X.isPers K x with ⟨p, hp', rfl, c1, t1⟩ | ⟨c1, t1⟩
  rotate_left
  · exact ⟨-1, by simp only [fX0_share, x_rcv, bsm, X.allC N2 N1.2, c1 M e0, if_true], by simp only [fX6_share, X.allT, bsm, t1, if_true], I'⟩
  by_cases h0 : av σ np = 0
  · exact ⟨-1, by simp only [fX0_share, x_rcv, bsm, X.allC N2 N1.2, c1 M e0, if_neg n01, if_pos h0], by simp only [fX6_share, X.allT, bsm, t1, if_neg n01, if_pos h0], I'⟩
  have nz1 : nz (av σ np) = some (av σ np) := by unfold nz; rw [if_neg h0]
  have key : ∃ v, fX0_share_33 K (hp a M) a FU (nI p) (av σ np) (σ.2.2.1 47 5) 0 0 = some v ∧ fX6_share_32 σ FU (nI p) (av σ np) (σ.2.2.1 47 5) 0 0 = some v := by
    refine lp2z (F := fun n (x : Int32 × Int32) i => fX0_share_33 K (hp a M) a n (nI p) (av σ np) x.1 x.2 i) (G := fun n (y : Int32 × Int32) i => fX6_share_32 σ n (nI p) (av σ np) y.1 y.2 i) (N := np) (x := (σ.2.2.1 47 5, 0)) (y := (σ.2.2.1 47 5, 0)) (I := fun _ x y => x = y ∧ ∃ q, q < np ∧ x.2 = nI q) (P := fun r r' => ∃ v, r = some v ∧ r' = some v) (by omega) ⟨rfl, 0, by omega, rfl⟩ ?_ ?_
    · rintro n m ⟨x, q'⟩ y k hk ⟨rfl, q, hq, rfl⟩
      have kk := nI_ge hk (show np < 2 ^ 31 by omega)
      refine Or.inl ?_
      by_cases hl : σ.2.2.1 54 (86 + 2 * k + 1) ≤ σ.2.2.1 54 (86 + 2 * q + 1)
      · refine ⟨(x - σ.2.2.1 47 5 * σ.2.2.1 54 (86 + 2 * k + 1) / av σ np, nI q), _, ⟨rfl, q, hq, rfl⟩, ?_, ?_⟩
        · simp only [fX0_share_33, x_rcv, bsm, X.people e0, if_neg kk, x_g0, g0 M e0, g3 M e0, x_g9, s_g5 i0, c_saw i0 (show k < 5 by omega), c_saw i0 (show q < 5 by omega), (sw k (by omega)).1, (sw q (by omega)).1, nz1, if_pos hl, fX0_share_92, nI_1]
        · simp only [fX6_share_32, X.persM, bsm, if_neg kk, z47, hoursOfT σ (show k < 5 by omega), hoursOfT σ (show q < 5 by omega), nz1, if_pos hl, fX6_share_78, nI_1]
      · refine ⟨(x - σ.2.2.1 47 5 * σ.2.2.1 54 (86 + 2 * k + 1) / av σ np, nI k), _, ⟨rfl, k, hk, rfl⟩, ?_, ?_⟩
        · simp only [fX0_share_33, x_rcv, bsm, X.people e0, if_neg kk, x_g0, g0 M e0, g3 M e0, x_g9, s_g5 i0, c_saw i0 (show k < 5 by omega), c_saw i0 (show q < 5 by omega), (sw k (by omega)).1, (sw q (by omega)).1, nz1, if_neg hl, fX0_share_92, nI_1]
        · simp only [fX6_share_32, X.persM, bsm, if_neg kk, z47, hoursOfT σ (show k < 5 by omega), hoursOfT σ (show q < 5 by omega), nz1, if_neg hl, fX6_share_78, nI_1]
    · rintro n m ⟨x, q'⟩ y ⟨rfl, q, hq, rfl⟩
      have kk := nI_le (Nat.le_refl np) (show np < 2 ^ 31 by omega)
      by_cases hpq : nI p = nI q
      · refine ⟨σ.2.2.1 47 5 * σ.2.2.1 54 (86 + 2 * p + 1) / av σ np + x, ?_, ?_⟩
        · simp only [fX0_share_33, x_rcv, bsm, X.people e0, if_pos kk, x_g0, g0 M e0, g3 M e0, x_g9, s_g5 i0, c_saw i0 (show p < 5 by omega), (sw p (by omega)).1, nz1, if_pos hpq, fX0_share_128]
        · simp only [fX6_share_32, X.persM, bsm, if_pos kk, z47, hoursOfT σ (show p < 5 by omega), nz1, if_pos hpq, fX6_share_109]
      · refine ⟨σ.2.2.1 47 5 * σ.2.2.1 54 (86 + 2 * p + 1) / av σ np + 0, ?_, ?_⟩
        · simp only [fX0_share_33, x_rcv, bsm, X.people e0, if_pos kk, x_g0, g0 M e0, g3 M e0, x_g9, s_g5 i0, c_saw i0 (show p < 5 by omega), (sw p (by omega)).1, nz1, if_neg hpq, fX0_share_128]
        · simp only [fX6_share_32, X.persM, bsm, if_pos kk, z47, hoursOfT σ (show p < 5 by omega), nz1, if_neg hpq, fX6_share_109]
  obtain ⟨v, k1, k2⟩ := key
  exact ⟨v, by simp only [fX0_share, x_rcv, bsm, X.allC N2 N1.2, c1 M e0, if_neg n01, if_neg h0, x_g0, g0 M e0, g3 M e0, k1], by simp only [fX6_share, X.allT, bsm, t1, if_neg n01, if_neg h0, z47, k2], I'⟩
end PSO

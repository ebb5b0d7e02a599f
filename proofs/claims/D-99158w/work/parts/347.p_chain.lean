/-! PARSER, a Chain and Facts grow -/
set_option maxRecDepth 100000
section PCH
variable {K : KE} {a d s z al n c r lo hi : Nat} {M M' M1 M2 : CM} {D D' : Nat → Option HE} {cs c1 : List Nat} {S : Nat → Prop}
theorem ccG_up (f : Nat → Nat) (cj : Nat → List Nat) (g : Nat → Nat) (hg : ∀ j, j < n → g j = f j) : ccG g (va_up cj n c1) (n + 1) = if n = 0 then c1 else ccG f cj n ++ c1 ++ [g n] := by
  cases n with
  | zero =>
    rw [if_pos rfl]
    show va_up cj 0 c1 0 = c1
    rw [up_s]
  | succ k =>
    rw [if_neg (by omega)]
    show ccG g (va_up cj (k + 1) c1) (k + 1) ++ va_up cj (k + 1) c1 (k + 1) ++ [g (k + 1)] = _
    rw [up_s, ccG_ext (n := k + 1) (g := f) (cj' := cj) hg (fun j hj => up_n _ _ (by omega))]
theorem FX.ex (h : FX S M M') (hs : ∀ y, S y → s ≤ y) (hz : s ≤ szM M) : EX s M M' := ⟨fun o _ _ => by rw [h.1], h.2.1, h.2.2.1, fun y hy => h.2.2.2.1 y (Nat.lt_of_lt_of_le hy hz) (fun q => absurd (hs y q) (by omega)), h.2.2.2.2.1, h.2.2.2.2.2⟩
theorem ChO.to (C : ChO K a d s z D n cs) (h : ∀ y, s ≤ y → y < z → D' y = D y) : ChO K a d s z D' n cs := by
  obtain ⟨ea, ba, ca, cb, el, sg, cj, ⟨e0, i0, z0⟩, X, Y, ⟨w1, w2, w3, w4⟩, kids, rfl⟩ := C
  refine ⟨ea, ba, ca, cb, el, sg, cj, ⟨by rw [h s (by omega) (by omega)]; exact e0, i0, z0⟩, X.to (h _ (by omega) (by omega)) (h _ (by omega) (by omega)), Y.to (h _ (by omega) (by omega)) (h _ (by omega) (by omega)), ⟨w1, w2, w3, w4⟩, fun j hj => ?_, rfl⟩
  obtain ⟨k0, lo, hi, k1, k2, k3, k4, k5⟩ := kids j hj
  exact ⟨k0, lo, hi, k1, k2, k3, k4, k5.to (Nat.le_refl _) (Nat.le_refl _) (fun y y1 y2 => h y (by omega) (by omega)) (Nat.le_refl _)⟩
theorem FaO.to (C : FaO K a d s z al D n cs) (h : ∀ y, s ≤ y → y < z → D' y = D y) : FaO K a d s z al D' n cs := by
  obtain ⟨ea, ca, el, cj, ⟨e0, i0, z0⟩, X, ⟨w1, w2⟩, kids, rfl⟩ := C
  refine ⟨ea, ca, el, cj, ⟨by rw [h s (by omega) (by omega)]; exact e0, i0, z0⟩, X.to (h _ (by omega) (by omega)) (h _ (by omega) (by omega)), ⟨w1, w2⟩, fun j hj => ?_, rfl⟩
  obtain ⟨lo, hi, k1, k2, k3, k5⟩ := kids j hj
  exact ⟨lo, hi, k1, k2, k3, k5.to (Nat.le_refl _) (Nat.le_refl _) (fun y y1 y2 => h y (by omega) (by omega)) (Nat.le_refl _)⟩
theorem ChO.rc (C : ChO K a d s z M.2.2.2.1 n cs) : rcv K (hp a M) (some s) 9 = some s := by
  obtain ⟨ea, ba, ca, cb, el, sg, cj, ⟨e0, i0, z0⟩, -⟩ := C
  exact d_rcv i0 e0
/-- one more in a Chain -/
theorem chAdd (C : ChO K a d s z M.2.2.2.1 n cs) (hz : z ≤ lo) (hh : hi ≤ szM M) (T : TrK d K a lo hi M.2.2.2.1 r c1) (hb : a + 1352 ≤ s) (hc : sgn c) (hn : n ≤ 900) (r1 : szM M + 2 ≤ K.2.2.1) (r2 : slM M + (4 * n + 4) ≤ K.2.2.2) :
    ∃ M', fX11_add K (hp a M) s (nI c) (some r) = some (hp a M') ∧ ChO K a d s (szM M') M'.2.2.2.1 (n + 1) (if n = 0 then c1 else cs ++ c1 ++ [sgc c]) ∧ M'.1 = M.1 ∧ EX s M M' ∧ szM M' ≤ szM M + 2 ∧ slM M' ≤ slM M + (4 * n + 4) := by
  obtain ⟨ea, ba, ca, cb, el, sg, cj, ⟨e0, i0, z0⟩, X, Y, ⟨w1, w2, w3, w4⟩, kids, rfl⟩ := C
  have tr := T.1.2
  have hc128 : c < 128 := by unfold sgn at hc; omega
  obtain ⟨M1, ba', cb', a1, Y1, F1, s1, t1, b1, b2⟩ := sbAdd (K := K) (c := c) Y (by omega) (by omega) (by omega) hc128 (by omega) (by omega) (by omega)
  have f1 := F1.2.2.2.2
  have neb : ea ≠ s + 3 := fun q => by
    obtain ⟨-, ⟨mc, f, -, x2, -⟩, -⟩ := X
    obtain ⟨-, ⟨ms, g, y1, -⟩, -⟩ := Y
    rw [q, y1] at x2
    simp at x2
  have nab : ea ≠ ba := fun q => by
    obtain ⟨-, ⟨mc, f, -, x2, -⟩, -⟩ := X
    obtain ⟨-, ⟨ms, g, -, y2, -⟩, -⟩ := Y
    rw [q, y2] at x2
    simp at x2
  have nab' : ea ≠ ba' := fun q => by
    rcases b1 with b1 | b1
    · exact nab (q.trans b1)
    · omega
  have D1 : ∀ y, y < szM M → y ≠ s + 3 → y ≠ ba → M1.2.2.2.1 y = M.2.2.2.1 y := fun y h1 h2 h3 => F1.2.2.2.1 y h1 (fun q => q.elim h2 h3)
  have X1 : LsX a M1.2.2.2.1 (s + 1) ea n ca el := X.to (D1 _ (by omega) (by omega) (by omega)) (D1 _ (by omega) neb nab)
  have hel : ∀ j, j < n → el j < szM M1 ∧ okO a M1.2.2.2.1 (el j) := fun j hj => by
    obtain ⟨k0, lo', hi', k1, k2, k3, k4, k5⟩ := kids j hj
    have k6 := k5.1.2
    exact ⟨by omega, k5.ok.1.to (D1 _ (by omega) (by omega) (by omega))⟩
  have hr : okO a M1.2.2.2.1 r := T.ok.1.to (D1 _ (by omega) (by omega) (by omega))
  obtain ⟨M2, ea', ca', a2, X2, F2, s2, t2, b3, b4⟩ := lsAdd (K := K) (r := r) X1 (by omega) (by omega) (by omega) hel hr (by omega) (by omega) (by omega) (by omega)
  have f2 := F2.2.2.2.2
  have D2 : ∀ y, y < szM M1 → y ≠ s + 1 → y ≠ ea → M2.2.2.2.1 y = M1.2.2.2.1 y := fun y h1 h2 h3 => F2.2.2.2.1 y h1 (fun q => q.elim h2 h3)
  have D12 : ∀ y, y < szM M → y ≠ s + 1 → y ≠ s + 3 → y ≠ ea → y ≠ ba → M2.2.2.2.1 y = M.2.2.2.1 y := fun y h1 h2 h3 h4 h5 => (D2 y (by omega) h2 h4).trans (D1 y h1 h3 h5)
  have e0' : M1.2.2.2.1 s = some (.inr (9, [.ref (s + 1), .ref (s + 3)])) := by rw [D1 s (by omega) (by omega) (by omega)]; exact e0
  have g1 : gR K (hp a M) (some s) 9 1 = some (some (s + 3)) := d_gR (x := some (s + 3)) i0 e0 rfl
  have g0 : gR K (hp a M1) (some s) 9 0 = some (some (s + 1)) := d_gR (x := some (s + 1)) i0 e0' rfl
  have rc3 : rcv K (hp a M) (some (s + 3)) 21 = some (s + 3) := by
    obtain ⟨⟨i1, -⟩, ⟨ms, g, y1, -⟩, -⟩ := Y
    exact d_rcv i1 y1
  have rc1 : rcv K (hp a M1) (some (s + 1)) 19 = some (s + 1) := by
    obtain ⟨⟨i1, -⟩, ⟨ms, g, y1, -⟩, -⟩ := X1
    exact d_rcv i1 y1
  have sgU : ∀ j, j < n → va_up sg n c j = sg j := fun j hj => up_n _ _ (by omega)
  refine ⟨M2, ?_, ⟨ea', ba', ca', cb', va_up el n r, va_up sg n c, va_up cj n c1, ⟨?_, i0, by omega⟩, X2, ?_, ⟨by omega, b4, by omega, by omega⟩, fun j hj => ?_, ?_⟩, F2.1.trans F1.1, ?_, by omega, by omega⟩
  · simp only [fX11_add, g1, bsm, rc3, a1, g0, rc1, a2]
  · rw [D12 s (by omega) (by omega) (by omega) (by omega) (by omega)]
    exact e0
  · exact Y1.to (D2 _ (by omega) (by omega) (fun q => neb q.symm)) (D2 _ b2 (by omega) (fun q => nab' q.symm))
  · by_cases q : j = n
    · subst q
      rw [up_s, up_s, up_s]
      refine ⟨hc, lo, hi, by omega, by omega, by omega, by omega, T.to (Nat.le_refl _) (Nat.le_refl _) (fun y y1 y2 => D12 y (by omega) (by omega) (by omega) (by omega) (by omega)) (Nat.le_refl _)⟩
    · rw [up_n _ _ q, up_n _ _ q, up_n _ _ q]
      obtain ⟨k0, lo', hi', k1, k2, k3, k4, k5⟩ := kids j (by omega)
      have k6 := k5.1.2
      exact ⟨k0, lo', hi', k1, by omega, by omega, by omega, k5.to (Nat.le_refl _) (Nat.le_refl _) (fun y y1 y2 => D12 y (by omega) (by omega) (by omega) (by omega) (by omega)) (Nat.le_refl _)⟩
  · rw [ccG_up (fun j => sgc (sg j)) cj (fun j => sgc (va_up sg n c j)) (fun j hj => by rw [sgU j hj])]
    show _ = if n = 0 then c1 else ccG (fun j => sgc (sg j)) cj n ++ c1 ++ [sgc (va_up sg n c n)]
    rw [up_s]
  · exact (F1.ex (s := s) (fun y q => by omega) (by omega)).tr (F2.ex (s := s) (fun y q => by omega) (by omega)) (Nat.le_refl _)
/-- one more among Facts -/
theorem faAdd (C : FaO K a d s z al M.2.2.2.1 n cs) (hz : z ≤ lo) (hh : hi ≤ szM M) (T : TeK d K a lo hi M.2.2.2.1 r c1) (hb : a + 1352 ≤ s) (hn : n ≤ 900) (r1 : szM M + 1 ≤ K.2.2.1) (r2 : slM M + (2 * n + 2) ≤ K.2.2.2) :
    rcv K (hp a M) (some (s + 1)) 19 = some (s + 1) ∧ ∃ M', fJ2_add K (hp a M) (s + 1) (some r) = some (hp a M', 1) ∧ FaO K a d s (szM M') al M'.2.2.2.1 (n + 1) (if n = 0 then c1 else cs ++ c1 ++ [11 - al]) ∧ M'.1 = M.1 ∧ EX s M M' ∧ szM M' ≤ szM M + 1 ∧ slM M' ≤ slM M + (2 * n + 2) := by
  obtain ⟨ea, ca, el, cj, ⟨e0, i0, z0⟩, X, ⟨w1, w2⟩, kids, rfl⟩ := C
  have tr := T.1.2
  have hel : ∀ j, j < n → el j < szM M ∧ okO a M.2.2.2.1 (el j) := fun j hj => by
    obtain ⟨lo', hi', k1, k2, k3, k5⟩ := kids j hj
    have k6 := k5.1.2
    exact ⟨by omega, k5.ok.1⟩
  obtain ⟨M2, ea', ca', a2, X2, F2, s2, t2, b3, b4⟩ := lsAdd (K := K) (r := r) X (by omega) (by omega) (by omega) hel T.ok.1 (by omega) (by omega) (by omega) (by omega)
  have f2 := F2.2.2.2.2
  have D2 : ∀ y, y < szM M → y ≠ s + 1 → y ≠ ea → M2.2.2.2.1 y = M.2.2.2.1 y := fun y h1 h2 h3 => F2.2.2.2.1 y h1 (fun q => q.elim h2 h3)
  have rc1 : rcv K (hp a M) (some (s + 1)) 19 = some (s + 1) := by
    obtain ⟨⟨i1, -⟩, ⟨ms, g, y1, -⟩, -⟩ := X
    exact d_rcv i1 y1
  refine ⟨rc1, M2, a2, ⟨ea', ca', va_up el n r, va_up cj n c1, ⟨?_, i0, by omega⟩, X2, ⟨by omega, b4⟩, fun j hj => ?_, ?_⟩, F2.1, F2.ex (s := s) (fun y q => by omega) (by omega), by omega, by omega⟩
  · rw [D2 s (by omega) (by omega) (by omega)]
    exact e0
  · by_cases q : j = n
    · subst q
      rw [up_s, up_s]
      exact ⟨lo, hi, by omega, by omega, by omega, T.to (Nat.le_refl _) (Nat.le_refl _) (fun y y1 y2 => D2 y (by omega) (by omega) (by omega)) (Nat.le_refl _)⟩
    · rw [up_n _ _ q, up_n _ _ q]
      obtain ⟨lo', hi', k1, k2, k3, k5⟩ := kids j (by omega)
      have k6 := k5.1.2
      exact ⟨lo', hi', k1, by omega, by omega, k5.to (Nat.le_refl _) (Nat.le_refl _) (fun y y1 y2 => D2 y (by omega) (by omega) (by omega)) (Nat.le_refl _)⟩
  · rw [ccG_up (fun _ => 11 - al) cj (fun _ => 11 - al) (fun j hj => rfl)]
/-- a new Chain -/
theorem chNew (hb : a + 1352 ≤ szM M) (r1 : szM M + 5 ≤ K.2.2.1) (r2 : slM M + 27 ≤ K.2.2.2) : ∃ M1 M', alc K (hp a M) (.inr (9, df9)) 2 = some (hp a M1) ∧ fX11_init K (hp a M1) (szM M) = some (hp a M') ∧ ChO K a d (szM M) (szM M') M'.2.2.2.1 0 [] ∧ M'.1 = M.1 ∧ EX (szM M) M M' ∧ szM M' = szM M + 5 ∧ slM M' = slM M + 27 := by
  have r1a : szM M + 1 ≤ K.2.2.1 := by omega
  have r2a : slM M + 2 ≤ K.2.2.2 := by omega
  have hy : ¬ inB a (szM M) := fun z => by have := z.2.1; omega
  obtain ⟨s, hs⟩ : ∃ s, szM M = s := ⟨_, rfl⟩
  obtain ⟨M1, hM1⟩ : ∃ M1, M1 = mA M (.inr (9, df9)) 2 := ⟨_, rfl⟩
  have s1 : szM M1 = s + 1 := by rw [hM1, ← hs]; rfl
  have t1 : slM M1 = slM M + 2 := by rw [hM1]; rfl
  have D1 : M1.2.2.2.1 s = some (.inr (9, df9)) := by rw [hM1, ← hs]; exact A_s
  have F1 : FX (fun _ => False) M M1 := by rw [hM1]; exact (FX.refl _ M).mA
  obtain ⟨M2, M3, a2, a3, X3, F3, s3, t3⟩ := lsNew (K := K) (a := a) (M := M1) (el := fun _ => 0) (by omega) (by omega) (by omega)
  have D3 : M3.2.2.2.1 s = some (.inr (9, df9)) := by rw [F3.2.2.2.1 s (by omega) (fun q => q)]; exact D1
  rw [s1] at X3 a3
  rw [hs] at hy ⊢
  obtain ⟨M4, hM4⟩ : ∃ M4, M4 = mD M3 s (some (.inr (9, [.ref (s + 1), .null]))) := ⟨_, rfl⟩
  have p4 : pV (hp a M3) (some s) 9 0 (va_rf (some (s + 1))) = some (hp a M4) := by rw [hM4]; exact d_pV hy D3 (by decide)
  have s4 : szM M4 = s + 3 := by rw [hM4]; show szM M3 = _; omega
  have t4 : slM M4 = slM M + 7 := by rw [hM4]; show slM M3 = _; omega
  obtain ⟨M5, M6, a5, a6, Y6, F6, s6, t6⟩ := sbNew (K := K) (a := a) (M := M4) (sg := fun _ => 0) (by omega) (by omega) (by omega)
  rw [s4] at Y6 a6
  have D4 : M4.2.2.2.1 s = some (.inr (9, [.ref (s + 1), .null])) := by rw [hM4]; exact D_s
  have D6 : M6.2.2.2.1 s = some (.inr (9, [.ref (s + 1), .null])) := by rw [F6.2.2.2.1 s (by omega) (fun q => q)]; exact D4
  obtain ⟨M7, hM7⟩ : ∃ M7, M7 = mD M6 s (some (.inr (9, [.ref (s + 1), .ref (s + 3)]))) := ⟨_, rfl⟩
  have p7 : pV (hp a M6) (some s) 9 1 (va_rf (some (s + 3))) = some (hp a M7) := by rw [hM7]; exact d_pV hy D6 (Nat.le_of_ble_eq_true rfl)
  have s7 : szM M7 = s + 5 := by rw [hM7]; show szM M6 = _; omega
  have t7 : slM M7 = slM M + 27 := by rw [hM7]; show slM M6 = _; omega
  have F34 : FX (fun y => y = s) M M4 := by
    have : FX (fun y => y = s) M M3 := ⟨F3.1.trans F1.1, F3.2.1.trans F1.2.1, F3.2.2.1.trans F1.2.2.1, fun y h1 h2 => (F3.2.2.2.1 y (by omega) (fun q => q)).trans (F1.2.2.2.1 y h1 (fun q => q)), by omega, by omega⟩
    rw [hM4]
    exact this.mD (fun _ => rfl)
  have F7 : FX (fun y => y = s) M M7 := by
    have : FX (fun y => y = s) M M6 := ⟨F6.1.trans F34.1, F6.2.1.trans F34.2.1, F6.2.2.1.trans F34.2.2.1, fun y h1 h2 => (F6.2.2.2.1 y (by omega) (fun q => q)).trans (F34.2.2.2.1 y h1 h2), by omega, by omega⟩
    rw [hM7]
    exact this.mD (fun _ => rfl)
  have X7 : LsX a M7.2.2.2.1 (s + 1) (s + 1 + 1) 0 2 (fun _ => 0) := X3.to (D' := M7.2.2.2.1) (by rw [hM7, D_n (by omega), F6.2.2.2.1 _ (by omega) (fun q => q), hM4, D_n (by omega)]) (by rw [hM7, D_n (by omega), F6.2.2.2.1 _ (by omega) (fun q => q), hM4, D_n (by omega)])
  have Y7 : SbX a M7.2.2.2.1 (s + 3) (s + 3 + 1) 0 16 (fun _ => 0) := Y6.to (D' := M7.2.2.2.1) (by rw [hM7, D_n (by omega)]) (by rw [hM7, D_n (by omega)])
  have z1 : (hp a M1).2.1 = s + 1 := s1
  have z4 : (hp a M4).2.1 = s + 3 := s4
  refine ⟨M1, M7, by rw [hM1]; exact d_al (M := M) (by rw [hs]; exact hy) r1a r2a, ?_, ⟨s + 1 + 1, s + 3 + 1, 2, 16, fun _ => 0, fun _ => 0, fun _ => [], ⟨by rw [hM7]; exact D_s, hy, by omega⟩, X7, Y7, ⟨by omega, by omega, by omega, by omega⟩, fun j hj => absurd hj (by omega), rfl⟩, F7.1, F7.ex (fun y q => by omega) (by omega), s7, t7⟩
  simp only [fX11_init, fX10_init, bsm, a2, z1, a3, p4, a5, z4, a6, p7]
/-- new Facts -/
theorem faNew (ha : al < 2) (hb : a + 1352 ≤ szM M) (r1 : szM M + 3 ≤ K.2.2.1) (r2 : slM M + 7 ≤ K.2.2.2) : ∃ M1 M', alc K (hp a M) (.inr (14, df14)) 2 = some (hp a M1) ∧ fX17_init K (hp a M1) (szM M) (nI al) = some (hp a M') ∧ FaO K a d (szM M) (szM M') al M'.2.2.2.1 0 [] ∧ M'.1 = M.1 ∧ EX (szM M) M M' ∧ szM M' = szM M + 3 ∧ slM M' = slM M + 7 := by
  have r1a : szM M + 1 ≤ K.2.2.1 := by omega
  have r2a : slM M + 2 ≤ K.2.2.2 := by omega
  have hy : ¬ inB a (szM M) := fun z => by have := z.2.1; omega
  obtain ⟨s, hs⟩ : ∃ s, szM M = s := ⟨_, rfl⟩
  obtain ⟨M1, hM1⟩ : ∃ M1, M1 = mA M (.inr (14, df14)) 2 := ⟨_, rfl⟩
  have s1 : szM M1 = s + 1 := by rw [hM1, ← hs]; rfl
  have t1 : slM M1 = slM M + 2 := by rw [hM1]; rfl
  have D1 : M1.2.2.2.1 s = some (.inr (14, df14)) := by rw [hM1, ← hs]; exact A_s
  have F1 : FX (fun _ => False) M M1 := by rw [hM1]; exact (FX.refl _ M).mA
  obtain ⟨M2, M3, a2, a3, X3, F3, s3, t3⟩ := lsNew (K := K) (a := a) (M := M1) (el := fun _ => 0) (by omega) (by omega) (by omega)
  have D3 : M3.2.2.2.1 s = some (.inr (14, df14)) := by rw [F3.2.2.2.1 s (by omega) (fun q => q)]; exact D1
  rw [s1] at X3 a3
  rw [hs] at hy ⊢
  obtain ⟨M4, hM4⟩ : ∃ M4, M4 = mD M3 s (some (.inr (14, [.ref (s + 1), .int 0]))) := ⟨_, rfl⟩
  have p4 : pV (hp a M3) (some s) 14 0 (va_rf (some (s + 1))) = some (hp a M4) := by rw [hM4]; exact d_pV hy D3 (by decide)
  have D4 : M4.2.2.2.1 s = some (.inr (14, [.ref (s + 1), .int 0])) := by rw [hM4]; exact D_s
  obtain ⟨M7, hM7⟩ : ∃ M7, M7 = mD M4 s (some (.inr (14, [.ref (s + 1), .int (nI al)]))) := ⟨_, rfl⟩
  have p7 : pV (hp a M4) (some s) 14 1 (.int (nI al)) = some (hp a M7) := by rw [hM7]; exact d_pV hy D4 (Nat.le_of_ble_eq_true rfl)
  have s7 : szM M7 = s + 3 := by rw [hM7, hM4]; show szM M3 = _; omega
  have t7 : slM M7 = slM M + 7 := by rw [hM7, hM4]; show slM M3 = _; omega
  have F7 : FX (fun y => y = s) M M7 := by
    have : FX (fun y => y = s) M M3 := ⟨F3.1.trans F1.1, F3.2.1.trans F1.2.1, F3.2.2.1.trans F1.2.2.1, fun y h1 h2 => (F3.2.2.2.1 y (by omega) (fun q => q)).trans (F1.2.2.2.1 y h1 (fun q => q)), by omega, by omega⟩
    rw [hM7, hM4]
    exact (this.mD (fun _ => rfl)).mD (fun _ => rfl)
  have X7 : LsX a M7.2.2.2.1 (s + 1) (s + 1 + 1) 0 2 (fun _ => 0) := X3.to (D' := M7.2.2.2.1) (by rw [hM7, D_n (by omega), hM4, D_n (by omega)]) (by rw [hM7, D_n (by omega), hM4, D_n (by omega)])
  have z1 : (hp a M1).2.1 = s + 1 := s1
  have zz : zr (nI al) = some (nI al) := by
    have : al = 0 ∨ al = 1 := by omega
    rcases this with rfl | rfl <;> decide
  refine ⟨M1, M7, by rw [hM1]; exact d_al (M := M) (by rw [hs]; exact hy) r1a r2a, ?_, ⟨s + 1 + 1, 2, fun _ => 0, fun _ => [], ⟨by rw [hM7]; exact D_s, hy, by omega⟩, X7, ⟨by omega, by omega⟩, fun j hj => absurd hj (by omega), rfl⟩, F7.1, F7.ex (fun y q => by omega) (by omega), s7, t7⟩
  simp only [fX17_init, fX16_init, bsm, a2, z1, a3, p4, zz, p7]
theorem FaO.gr (C : FaO K a d s z al M.2.2.2.1 n cs) : gR K (hp a M) (some s) 14 0 = some (some (s + 1)) := by
  obtain ⟨ea, ca, el, cj, ⟨e0, i0, z0⟩, -⟩ := C
  exact d_gR (x := some (s + 1)) i0 e0 rfl
end PCH

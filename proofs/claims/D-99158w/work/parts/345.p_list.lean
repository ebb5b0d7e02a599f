/-! PARSER, lists and builders at the component -/
set_option maxRecDepth 100000
abbrev szM (M : CM) : Nat := M.2.2.2.2.1
abbrev slM (M : CM) : Nat := M.2.2.2.2.2
/-- but for the cells S all old ones are as before -/
def FX (S : Nat → Prop) (M M' : CM) : Prop := M'.1 = M.1 ∧ M'.2.1 = M.2.1 ∧ M'.2.2.1 = M.2.2.1 ∧ (∀ y, y < szM M → ¬ S y → M'.2.2.2.1 y = M.2.2.2.1 y) ∧ szM M ≤ szM M' ∧ slM M ≤ slM M'
/-- an ArrayList at la with its row at ea -/
def LsX (a : Nat) (D : Nat → Option HE) (la ea n cap : Nat) (el : Nat → Nat) : Prop := (¬ inB a la ∧ ¬ inB a ea) ∧ (∃ mc f, D la = some (.inr (19, [.int mc, .ref ea, .int (nI n)])) ∧ D ea = some (rA 5 cap f) ∧ ∀ j, j < n → f j = some (el j)) ∧ n ≤ cap ∧ 2 ≤ cap ∧ cap ≤ 2 * n + 4
/-- an object that may lie in a list -/
def okO (a : Nat) (D : Nat → Option HE) (y : Nat) : Prop := ¬ inB a y ∧ ∃ ci fs, D y = some (.inr (ci, fs)) ∧ ci < 19
/-- a StringBuilder at sa with its bytes at ba -/
def SbX (a : Nat) (D : Nat → Option HE) (sa ba n cap : Nat) (sg : Nat → Nat) : Prop := (¬ inB a sa ∧ ¬ inB a ba) ∧ (∃ ms f, D sa = some (.inr (21, [.ref ba, .int 0, .int ms, .int (nI n)])) ∧ D ba = some (iA 3 cap f) ∧ ∀ j, j < n → f j = nI (sg j)) ∧ (∀ j, j < n → sg j < 128) ∧ n ≤ cap ∧ 16 ≤ cap ∧ cap ≤ 2 * n + 16
theorem ch_w : ∀ c, c < 128 → ((nI c &&& 255).toUInt32 % 65536).toInt32 = nI c ∧ cr (nI c) = some (nI c) ∧ fits .byte (.int (nI c)) = true := by decide +kernel
theorem a0_31 : (0 : Int32) &&& 31 = 0 := by decide
theorem c0_n : (0 : Int32).toNatClampNeg = 0 := by decide
section PLS
variable {K : KE} {a n cap la ea sa ba r y y0 y1 n0 n1 k c : Nat} {M M' M1 M2 : CM} {el sg : Nat → Nat} {S : Nat → Prop} {h : HS}
theorem nI_s0 {x y : Nat} (hx : x < 2 ^ 30) (hy : y < 2 ^ 30) : (nI x - nI y ≤ 0) = (x ≤ y) := by
  have e0 : (0 : Int32).toInt = 0 := by decide
  rw [Int32.le_iff_toInt_le, Int32.toInt_sub, nI_toInt (by omega), nI_toInt (by omega), e0, Int.bmod_eq_of_le (by omega) (by omega)]
  exact propext ⟨fun h => by omega, fun h => by omega⟩
theorem FX.refl (S : Nat → Prop) (M : CM) : FX S M M := ⟨rfl, rfl, rfl, fun _ _ _ => rfl, Nat.le_refl _, Nat.le_refl _⟩
theorem FX.tr (h : FX S M M1) (g : FX S M1 M2) : FX S M M2 := ⟨g.1.trans h.1, g.2.1.trans h.2.1, g.2.2.1.trans h.2.2.1, fun y hy hs => (g.2.2.2.1 y (Nat.lt_of_lt_of_le hy h.2.2.2.2.1) hs).trans (h.2.2.2.1 y hy hs), Nat.le_trans h.2.2.2.2.1 g.2.2.2.2.1, Nat.le_trans h.2.2.2.2.2 g.2.2.2.2.2⟩
theorem FX.mD {e : Option HE} (h : FX S M M1) (hs : y < szM M → S y) : FX S M (mD M1 y e) := ⟨h.1, h.2.1, h.2.2.1, fun z hz hn => by
  rw [D_n (fun q => hn (by rw [q]; exact hs (by rw [← q]; exact hz)))]
  exact h.2.2.2.1 z hz hn, h.2.2.2.2.1, h.2.2.2.2.2⟩
theorem FX.mA {e : HE} (h : FX S M M1) : FX S M (mA M1 e n) := ⟨h.1, h.2.1, h.2.2.1, fun z hz hn => by
  rw [A_n (by have := h.2.2.2.2.1; show z ≠ szM M1; omega)]
  exact h.2.2.2.1 z hz hn, Nat.le_trans h.2.2.2.2.1 (Nat.le_succ _), Nat.le_trans h.2.2.2.2.2 (Nat.le_add_right _ _)⟩
theorem okO_in (hr : okO a M.2.2.2.1 r) : okIn K (hp a M) 5 (some r) = true := by
  obtain ⟨h, ci, fs, e, c⟩ := hr
  have : ci < 22 := by omega
  simp [okIn, d_rd h e, asgO, this]
theorem okO.to {D D' : Nat → Option HE} (h : okO a D y) (e : D' y = D y) : okO a D' y := by
  obtain ⟨h, ci, fs, q, c⟩ := h
  exact ⟨h, ci, fs, by rw [e]; exact q, c⟩
theorem okO_ne {D : Nat → Option HE} {fs : List Value} (h : okO a D y) (e : D la = some (.inr (19, fs))) : y ≠ la := by
  obtain ⟨h, ci, gs, q, c⟩ := h
  intro z
  rw [z, e] at q
  simp at q
  omega
theorem okO_na {D : Nat → Option HE} {x : vp_A} {t : Nat} (h : okO a D y) (e : D ea = some (.inl (t, x))) : y ≠ ea := by
  obtain ⟨h, ci, gs, q, c⟩ := h
  intro z
  rw [z, e] at q
  simp at q
theorem d_al {e : HE} (hy : ¬ inB a (szM M)) (h1 : szM M + 1 ≤ K.2.2.1) (h2 : slM M + n ≤ K.2.2.2) : alc K (hp a M) e n = some (hp a (mA M e n)) := d_alc hy h1 h2
theorem nA_r (hy : ¬ inB a (szM M)) (h1 : szM M + 1 ≤ K.2.2.1) (h2 : slM M + n ≤ K.2.2.2) (hn : n ≤ 100000) : nA K (hp a M) 5 (.inr (.inr (.inr (.inr (fun _ => none))))) (nI n) = some (hp a (mA M (rA 5 n (fun _ => none)) n)) := by
  unfold nA
  rw [if_neg, nI_clamp (by omega)]
  · exact d_alc hy h1 h2
  · rw [nI_lt0 (by omega), nI_clamp (by omega)]
    rintro (z | z)
    · exact z
    · omega
theorem nA_b (hy : ¬ inB a (szM M)) (h1 : szM M + 1 ≤ K.2.2.1) (h2 : slM M + n ≤ K.2.2.2) (hn : n ≤ 100000) : nA K (hp a M) 3 (.inl (fun _ => 0)) (nI n) = some (hp a (mA M (iA 3 n (fun _ => 0)) n)) := by
  unfold nA
  rw [if_neg, nI_clamp (by omega)]
  · exact d_alc hy h1 h2
  · rw [nI_lt0 (by omega), nI_clamp (by omega)]
    rintro (z | z)
    · exact z
    · omega
theorem acR_o {f g : Nat → Option Nat} (i0 : ¬ inB a y0) (i1 : ¬ inB a y1) (e0 : M.2.2.2.1 y0 = some (rA 5 n0 f)) (e1 : M.2.2.2.1 y1 = some (rA 5 n1 g)) (h0 : n ≤ n0) (h1 : n ≤ n1) (hn : n < 2 ^ 31) (ok : ∀ j, j < n → ∃ y, f j = some y ∧ okO a M.2.2.2.1 y) : acR K (hp a M) (some y0) 0 (some y1) 0 (nI n) = some (hp a (mD M y1 (some (rA 5 n1 (va_cpy f g 0 0 n))))) := by
  have q1 := hp_D (M := M) i1
  rw [e1] at q1
  have oa : okAll K (hp a M) f 0 n = true := by
    unfold okAll
    rw [List.all_eq_true]
    intro j hj
    rw [List.mem_range] at hj
    obtain ⟨y, y1, y2⟩ := ok j hj
    simp only [Nat.zero_add, y1]
    exact okO_in y2
  have cond : ¬ ((0 : Int32) < 0 ∨ (0 : Int32) < 0 ∨ nI n < 0 ∨ n0 < 0 + n ∨ n1 < 0 + n ∨ okAll K (hp a M) f 0 n = false) := by
    rw [oa, nI_lt0 hn]
    rintro (z | z | z | z | z | z)
    · exact absurd z (by decide)
    · exact absurd z (by decide)
    · exact z
    · omega
    · omega
    · exact absurd z (by decide)
  simp only [acR, arr, d_rd i0 e0, wA, q1, if_true, nI_clamp hn, c0_n, if_neg cond]
  rw [hp_mD i1]
theorem acB_o {f g : Nat → Int32} (i0 : ¬ inB a y0) (i1 : ¬ inB a y1) (e0 : M.2.2.2.1 y0 = some (iA 3 n0 f)) (e1 : M.2.2.2.1 y1 = some (iA 3 n1 g)) (h0 : n ≤ n0) (h1 : n ≤ n1) (hn : n < 2 ^ 31) (ok : ∀ j, j < n → ∃ c, f j = nI c ∧ c < 128) : acB K (hp a M) (some y0) 0 (some y1) 0 (nI n) = some (hp a (mD M y1 (some (iA 3 n1 (va_cpy f g 0 0 n))))) := by
  have q1 := hp_D (M := M) i1
  rw [e1] at q1
  have oa : fitB f 0 n = true := by
    unfold fitB
    rw [List.all_eq_true]
    intro j hj
    rw [List.mem_range] at hj
    obtain ⟨c, y1, y2⟩ := ok j hj
    simp only [Nat.zero_add, y1]
    exact (ch_w c y2).2.2
  have cond : ¬ ((0 : Int32) < 0 ∨ (0 : Int32) < 0 ∨ nI n < 0 ∨ n0 < 0 + n ∨ n1 < 0 + n ∨ fitB f 0 n = false) := by
    rw [oa, nI_lt0 hn]
    rintro (z | z | z | z | z | z)
    · exact absurd z (by decide)
    · exact absurd z (by decide)
    · exact z
    · omega
    · omega
    · exact absurd z (by decide)
  simp only [acB, arr, d_rd i0 e0, wA, q1, if_true, nI_clamp hn, c0_n, if_neg cond]
  rw [hp_mD i1]
theorem newL {x z : Nat} (hx : 1 ≤ x ∧ x ≤ 10000) (hz : z ≤ 10000) (hc : cap ≤ 10000) : ∃ w, (w = x ∨ w = z) ∧ x ≤ w ∧ z ≤ w ∧ fJ10_newLength K h (nI cap) (nI x) (nI z) = some (nI (cap + w)) := by
  have go : ∀ w, 1 ≤ w → w ≤ 10000 → fJ12_max K h (nI x) (nI z) = some (nI w) → fJ10_newLength K h (nI cap) (nI x) (nI z) = some (nI (cap + w)) := fun w h1 h2 e => by
    have k1 : (nI (cap + w) ≤ (0 : Int32)) = False := by rw [nI_le0 (by omega)]; exact eq_false (by omega)
    have k2 : ((2147483639 : Int32) < nI (cap + w)) = False := by rw [k_lt (n := 2147483639) (by decide) (by omega)]; exact eq_false (by omega)
    simp only [fJ10_newLength, e, bsm, nI_add, k1, k2, if_false]
  by_cases q : x < z
  · refine ⟨z, Or.inr rfl, by omega, Nat.le_refl _, go z (by omega) hz ?_⟩
    simp only [fJ12_max, nI_ltE (show x < 2 ^ 31 by omega) (show z < 2 ^ 31 by omega), if_pos q]
  · refine ⟨x, Or.inl rfl, Nat.le_refl _, by omega, go x (by omega) (by omega) ?_⟩
    simp only [fJ12_max, nI_ltE (show x < 2 ^ 31 by omega) (show z < 2 ^ 31 by omega), if_neg q]
theorem min_o {x z : Nat} (hx : x ≤ 100000) (hz : z ≤ 100000) (q : x ≤ z) : fJ12_min K h (nI x) (nI z) = some (nI x) := by
  simp only [fJ12_min, nI_ltE (show z < 2 ^ 31 by omega) (show x < 2 ^ 31 by omega), if_neg (show ¬ z < x by omega)]
-- the list
theorem add211 {mc x : Int32} {f : Nat → Option Nat} {e' : Nat} (i1 : ¬ inB a la) (i2 : ¬ inB a ea) (e1 : M.2.2.2.1 la = some (.inr (19, [.int mc, .ref e', .int x]))) (e2 : M.2.2.2.1 ea = some (rA 5 cap f)) (hn : n < cap) (hc : cap < 2 ^ 31) (hr : okO a M.2.2.2.1 r) (ne : la ≠ ea) : fJ2_add_2_11 K la (hp a M) (some r) (some ea) (nI n) = some (hp a (mD (mD M ea (some (rA 5 cap (va_up f n (some r))))) la (some (.inr (19, [.int mc, .ref e', .int (nI (n + 1))]))))) := by
  have s1 := d_sCR (K := K) i2 e2 hn hc (okO_in hr)
  have D2 : (mD M ea (some (rA 5 cap (va_up f n (some r))))).2.2.2.1 la = some (.inr (19, [.int mc, .ref e', .int x])) := by rw [D_n ne]; exact e1
  have s2 := d_pV (v := .int (nI (n + 1))) (k := 2) i1 D2 (Nat.le_of_ble_eq_true rfl)
  simp only [fJ2_add_2_11, s1, bsm, nI_1, s2]
  rfl
theorem lsAdd (X : LsX a M.2.2.2.1 la ea n cap el) (hb : a + 1352 ≤ szM M) (hla : la < szM M) (hea : ea < szM M) (ho : ∀ j, j < n → el j < szM M ∧ okO a M.2.2.2.1 (el j)) (hr : okO a M.2.2.2.1 r) (hrz : r < szM M) (hn : n ≤ 1000) (r1 : szM M + 1 ≤ K.2.2.1) (r2 : slM M + (2 * n + 2) ≤ K.2.2.2) :
    ∃ M' ea' cap', fJ2_add K (hp a M) la (some r) = some (hp a M', 1) ∧ LsX a M'.2.2.2.1 la ea' (n + 1) cap' (va_up el n r) ∧ FX (fun y => y = la ∨ y = ea) M M' ∧ szM M' ≤ szM M + 1 ∧ slM M' ≤ slM M + (2 * n + 2) ∧ (ea' = ea ∨ ea' = szM M) ∧ ea' < szM M' := by
  obtain ⟨⟨i1, i2⟩, ⟨mc, f, e1, e2, e3⟩, c1, c2, c3⟩ := X
  have ne : la ≠ ea := fun z => by
    rw [z, e2] at e1
    simp at e1
  have elU : ∀ (g : Nat → Option Nat), (∀ j, j < n → g j = some (el j)) → ∀ j, j < n + 1 → va_up g n (some r) j = some (va_up el n r j) := fun g hg j hj => by
    by_cases q : j = n
    · subst q
      rw [up_s, up_s]
    · rw [up_n _ _ q, up_n _ _ q]
      exact hg j (by omega)
  obtain ⟨M1, hM1⟩ : ∃ M1, M1 = mD M la (some (.inr (19, [.int (mc + 1), .ref ea, .int (nI n)]))) := ⟨_, rfl⟩
  have D1 : M1.2.2.2.1 la = some (.inr (19, [.int (mc + 1), .ref ea, .int (nI n)])) := by rw [hM1]; exact D_s
  have D1e : M1.2.2.2.1 ea = some (rA 5 cap f) := by rw [hM1, D_n ne.symm]; exact e2
  have s1 : szM M1 = szM M := by rw [hM1]; rfl
  have t1 : slM M1 = slM M := by rw [hM1]; rfl
  have F1 : FX (fun y => y = la ∨ y = ea) M M1 := by rw [hM1]; exact (FX.refl _ M).mD (fun _ => Or.inl rfl)
  have g0 : gI K (hp a M) (some la) 19 0 = some mc := d_gI i1 e1 rfl
  have p1 : pV (hp a M) (some la) 19 0 (.int (mc + 1)) = some (hp a M1) := by rw [hM1]; exact d_pV i1 e1 (Nat.le_of_ble_eq_true rfl)
  have g1 : gR K (hp a M1) (some la) 19 1 = some (some ea) := d_gR (x := some ea) i1 D1 rfl
  have g2 : gI K (hp a M1) (some la) 19 2 = some (nI n) := d_gI i1 D1 rfl
  have rc : rcv K (hp a M1) (some la) 19 = some la := d_rcv i1 D1
  have cn : cN K (hp a M1) (some ea) 5 = some (nI cap) := d_cNr i2 D1e
  have base : fJ2_add K (hp a M) la (some r) = (fJ2_add_2 K (hp a M1) la (some r) (some ea) (nI n)).bind fun x6 => some (x6, (1 : Int32)) := by
    simp only [fJ2_add, g0, bsm, p1, g1, g2, rc]
  have hr1 : okO a M1.2.2.2.1 r := hr.to (by rw [hM1, D_n (okO_ne hr e1)])
  by_cases hc : n < cap
  · have kc : ¬ nI n = nI cap := fun z => by
      have := (nI_eq (by omega) (by omega)).mp z
      omega
    refine ⟨mD (mD M1 ea (some (rA 5 cap (va_up f n (some r))))) la (some (.inr (19, [.int (mc + 1), .ref ea, .int (nI (n + 1))]))), ea, cap, ?_, ⟨⟨i1, i2⟩, ⟨mc + 1, va_up f n (some r), D_s, ?_, elU f e3⟩, by omega, c2, by omega⟩, (F1.mD (y := ea) (fun _ => Or.inr rfl)).mD (y := la) (fun _ => Or.inl rfl), ?_, ?_, Or.inl rfl, ?_⟩
    rotate_left
    · rw [D_n ne.symm]
      exact D_s
    · show szM M1 ≤ _
      omega
    · show slM M1 ≤ _
      omega
    · show ea < szM M1
      omega
    · rw [base]
      simp only [fJ2_add_2, cn, bsm, if_neg kc, add211 (K := K) i1 i2 D1 D1e hc (by omega) hr1 ne]
  · obtain rfl : n = cap := by omega
    have hy : ¬ inB a (szM M1) := fun z => by have := z.2.1; omega
    obtain ⟨w, w1, w2, w3, w4⟩ := newL (K := K) (h := hp a M1) (cap := n) (x := 1) (z := n / 2) (by omega) (by omega) (by omega)
    obtain ⟨nc, hnc⟩ : ∃ nc, nc = n + w := ⟨_, rfl⟩
    rw [← hnc] at w4
    obtain ⟨M2, hM2⟩ : ∃ M2, M2 = mA M1 (rA 5 nc (fun _ => none)) nc := ⟨_, rfl⟩
    have s2 : szM M2 = szM M1 + 1 := by rw [hM2]; rfl
    have t2 : slM M2 = slM M1 + nc := by rw [hM2]; rfl
    have D2 : M2.2.2.2.1 la = some (.inr (19, [.int (mc + 1), .ref ea, .int (nI n)])) := by rw [hM2, A_n (by show la ≠ szM M1; omega)]; exact D1
    have D2e : M2.2.2.2.1 ea = some (rA 5 n f) := by rw [hM2, A_n (by show ea ≠ szM M1; omega)]; exact D1e
    have D2n : M2.2.2.2.1 (szM M1) = some (rA 5 nc (fun _ => none)) := by rw [hM2]; exact A_s
    have F2 : FX (fun y => y = la ∨ y = ea) M M2 := by rw [hM2]; exact F1.mA
    have o2 : ∀ j, j < n → ∃ y, f j = some y ∧ okO a M2.2.2.2.1 y := fun j hj => by
      obtain ⟨h1, h2⟩ := ho j hj
      exact ⟨el j, e3 j hj, h2.to (F2.2.2.2.1 _ h1 (fun z => z.elim (okO_ne h2 e1) (okO_na h2 e2)))⟩
    have hy2 : ¬ inB a (szM M1) := hy
    have ac := acR_o (K := K) i2 hy2 D2e D2n (Nat.le_refl n) (show n ≤ nc by omega) (by omega) o2
    obtain ⟨M3, hM3⟩ : ∃ M3, M3 = mD M2 (szM M1) (some (rA 5 nc (va_cpy f (fun _ => none) 0 0 n))) := ⟨_, rfl⟩
    rw [← hM3] at ac
    have na : nA K (hp a M1) 5 (.inr (.inr (.inr (.inr (fun _ => none))))) (nI nc) = some (hp a M2) := by rw [hM2]; exact nA_r hy (by omega) (by omega) (by omega)
    have ck : ckA K (hp a M1) (some ea) 5 = some () := by simp [ckA, d_rd i2 D1e]
    have cn2 : cN K (hp a M2) (some ea) 5 = some (nI n) := d_cNr i2 D2e
    have sz1 : (hp a M1).2.1 = szM M1 := rfl
    have cp : fJ13_copyOf K (hp a M1) (some ea) (nI nc) = some (hp a M3, some (szM M1)) := by
      have c2' : fJ13_copyOf_2 K (hp a M1) (some ea) (nI nc) (K.2.1 7) = some (hp a M3, some (szM M1)) := by
        unfold fJ13_copyOf_2
        rw [if_pos rfl, na, bsm, sz1]
        simp only [fJ13_copyOf_2_24, cn2, bsm, min_o (K := K) (h := hp a M2) (show n ≤ 100000 by omega) (show nc ≤ 100000 by omega) (show n ≤ nc by omega), ac]
      simp only [fJ13_copyOf, ck, bsm, c2']
    have D3 : M3.2.2.2.1 la = some (.inr (19, [.int (mc + 1), .ref ea, .int (nI n)])) := by rw [hM3, D_n (by omega)]; exact D2
    have D3n : M3.2.2.2.1 (szM M1) = some (rA 5 nc (va_cpy f (fun _ => none) 0 0 n)) := by rw [hM3]; exact D_s
    obtain ⟨M4, hM4⟩ : ∃ M4, M4 = mD M3 la (some (.inr (19, [.int (mc + 1), .ref (szM M1), .int (nI n)]))) := ⟨_, rfl⟩
    have p4 : pV (hp a M3) (some la) 19 1 (va_rf (some (szM M1))) = some (hp a M4) := by rw [hM4]; exact d_pV i1 D3 (Nat.le_of_ble_eq_true rfl)
    have q1 : nI (n + 1) - nI n = nI 1 := by rw [nI_sub (by omega)]; exact congrArg nI (by omega)
    have q2 : nI n >>> ((1 : Int32) &&& 31) = nI (n / 2) := by
      rw [pk_shrN (by omega) _ 1 (by decide), Nat.pow_one]
    have q3 : ((0 : Int32) < nI n) = True := by rw [k_lt (n := 0) rfl (by omega)]; exact eq_true (by omega)
    have gr : fJ2_grow K (hp a M1) la = some (hp a M4, some (szM M1)) := by
      simp only [fJ2_grow, g2, bsm, rc, nI_1, fJ2_grow_2, g1, cn, q3, if_true, fJ2_grow_2_20, q1, q2, w4, cp, p4]
    have D4 : M4.2.2.2.1 la = some (.inr (19, [.int (mc + 1), .ref (szM M1), .int (nI n)])) := by rw [hM4]; exact D_s
    have D4n : M4.2.2.2.1 (szM M1) = some (rA 5 nc (va_cpy f (fun _ => none) 0 0 n)) := by rw [hM4, D_n (by omega)]; exact D3n
    have F4 : FX (fun y => y = la ∨ y = ea) M M4 := by
      rw [hM4, hM3]
      exact (F2.mD (y := szM M1) (fun q => absurd q (by omega))).mD (y := la) (fun _ => Or.inl rfl)
    have hr4 : okO a M4.2.2.2.1 r := hr.to (F4.2.2.2.1 _ hrz (fun z => z.elim (okO_ne hr e1) (okO_na hr e2)))
    have s4 : szM M4 = szM M + 1 := by rw [hM4, hM3]; show szM M2 = _; omega
    have t4 : slM M4 = slM M + nc := by rw [hM4, hM3]; show slM M2 = _; omega
    have cpE : ∀ j, j < n → va_cpy f (fun _ => none) 0 0 n j = some (el j) := fun j hj => by
      unfold va_cpy
      rw [if_pos (by omega), show 0 + (j - 0) = j by omega]
      exact e3 j hj
    refine ⟨mD (mD M4 (szM M1) (some (rA 5 nc (va_up (va_cpy f (fun _ => none) 0 0 n) n (some r))))) la (some (.inr (19, [.int (mc + 1), .ref (szM M1), .int (nI (n + 1))]))), szM M1, nc, ?_, ⟨⟨i1, hy⟩, ⟨mc + 1, va_up (va_cpy f (fun _ => none) 0 0 n) n (some r), D_s, ?_, elU _ cpE⟩, by omega, by omega, by omega⟩, (F4.mD (y := szM M1) (fun q => absurd q (by omega))).mD (y := la) (fun _ => Or.inl rfl), ?_, ?_, Or.inr (by omega), ?_⟩
    rotate_left
    · rw [D_n (by omega)]
      exact D_s
    · show szM M4 ≤ _
      omega
    · show slM M4 ≤ _
      omega
    · show szM M1 < szM M4
      omega
    · rw [base]
      have kc : nI n = nI n := rfl
      unfold fJ2_add_2
      rw [cn, bsm, if_pos kc, rc, bsm, gr, bsm, add211 (K := K) i1 hy D4 D4n (show n < nc by omega) (by omega) hr4 (by omega), bsm]
-- the builder
theorem sbAdd (X : SbX a M.2.2.2.1 sa ba n cap sg) (hb : a + 1352 ≤ szM M) (hsa : sa < szM M) (hba : ba < szM M) (hc : c < 128) (hn : n ≤ 1000) (r1 : szM M + 1 ≤ K.2.2.1) (r2 : slM M + (2 * n + 2) ≤ K.2.2.2) :
    ∃ M' ba' cap', fJ15_append K (hp a M) sa (nI c) = some (hp a M', some sa) ∧ SbX a M'.2.2.2.1 sa ba' (n + 1) cap' (va_up sg n c) ∧ FX (fun y => y = sa ∨ y = ba) M M' ∧ szM M' ≤ szM M + 1 ∧ slM M' ≤ slM M + (2 * n + 2) ∧ (ba' = ba ∨ ba' = szM M) ∧ ba' < szM M' := by
  obtain ⟨⟨i1, i2⟩, ⟨ms, f, e1, e2, e3⟩, e4, c1, c2, c3⟩ := X
  have ne : sa ≠ ba := fun z => by
    rw [z, e2] at e1
    simp at e1
  have sgU : ∀ (g : Nat → Int32), (∀ j, j < n → g j = nI (sg j)) → ∀ j, j < n + 1 → upd g n (nI c) j = nI (va_up sg n c j) := fun g hg j hj => by
    by_cases q : j = n
    · subst q
      rw [up_s]
      simp [upd]
    · rw [up_n _ _ q]
      simp only [upd, if_neg q]
      exact hg j (by omega)
  have sgL : ∀ j, j < n + 1 → va_up sg n c j < 128 := fun j hj => by
    by_cases q : j = n
    · subst q
      rw [up_s]
      exact hc
    · rw [up_n _ _ q]
      exact e4 j (by omega)
  have n1' : ¬ (1 : Int32) = 0 := by decide
  -- behind the growing
  have fin : ∀ (M' : CM) (ba' cap' : Nat) (g : Nat → Int32), ¬ inB a ba' → M'.2.2.2.1 sa = some (.inr (21, [.ref ba', .int 0, .int ms, .int (nI n)])) → M'.2.2.2.1 ba' = some (iA 3 cap' g) → (∀ j, j < n → g j = nI (sg j)) → n < cap' → 16 ≤ cap' → cap' ≤ 2 * (n + 1) + 16 → FX (fun y => y = sa ∨ y = ba) M M' → (ba' = ba ∨ ba' = szM M) → ba' < szM M' → szM M' ≤ szM M + 1 → slM M' ≤ slM M + (2 * n + 2) → fJ14_ensureCapacityInternal K (hp a M) sa (nI (n + 1)) = some (hp a M') →
      ∃ M' ba' cap', fJ15_append K (hp a M) sa (nI c) = some (hp a M', some sa) ∧ SbX a M'.2.2.2.1 sa ba' (n + 1) cap' (va_up sg n c) ∧ FX (fun y => y = sa ∨ y = ba) M M' ∧ szM M' ≤ szM M + 1 ∧ slM M' ≤ slM M + (2 * n + 2) ∧ (ba' = ba ∨ ba' = szM M) ∧ ba' < szM M' := by
    intro M' ba' cap' g j1 j2 j3 j4 j5 j6 j7 j8 j9 j10 j11 j12 j13
    have ne' : sa ≠ ba' := fun z => by
      rw [z, j3] at j2
      simp at j2
    obtain ⟨M3, hM3⟩ : ∃ M3, M3 = mD M' sa (some (.inr (21, [.ref ba', .int 0, .int ms, .int (nI (n + 1))]))) := ⟨_, rfl⟩
    have p3 : pV (hp a M') (some sa) 21 3 (.int (nI (n + 1))) = some (hp a M3) := by rw [hM3]; exact d_pV i1 j2 (Nat.le_of_ble_eq_true rfl)
    have D3 : M3.2.2.2.1 sa = some (.inr (21, [.ref ba', .int 0, .int ms, .int (nI (n + 1))])) := by rw [hM3]; exact D_s
    have D3b : M3.2.2.2.1 ba' = some (iA 3 cap' g) := by rw [hM3, D_n ne'.symm]; exact j3
    have s3 := d_sC (v := nI c) j1 D3b j5 (by omega)
    have g3 : gI K (hp a M) (some sa) 21 3 = some (nI n) := d_gI i1 e1 rfl
    have rc0 : rcv K (hp a M) (some sa) 21 = some sa := d_rcv i1 e1
    have rc1 : rcv K (hp a M') (some sa) 21 = some sa := d_rcv i1 j2
    have g1 : gI K (hp a M') (some sa) 21 1 = some 0 := d_gI i1 j2 rfl
    have g0 : gR K (hp a M') (some sa) 21 0 = some (some ba') := d_gR (x := some ba') i1 j2 rfl
    have g4 : gI K (hp a M') (some sa) 21 3 = some (nI n) := d_gI i1 j2 rfl
    have la1 : fJ14_isLatin1 K (hp a M') sa = some 1 := by
      simp only [fJ14_isLatin1, if_neg n1', g1, bsm, if_true]
    have cE' : fJ9_canEncode K (hp a M') (nI c) = some 1 := by
      have : ((255 : Int32) < nI c) = False := by rw [k_lt (n := 255) rfl (by omega)]; exact eq_false (by omega)
      simp only [fJ9_canEncode, this, if_false]
    have nb : vp_nar .byte (nI c).toInt8.toInt32 = nI c := (ch_v c hc).2
    refine ⟨mD M3 ba' (some (iA 3 cap' (upd g n (nI c)))), ba', cap', ?_, ⟨⟨i1, j1⟩, ⟨ms, upd g n (nI c), ?_, D_s, sgU g j4⟩, sgL, by omega, by omega, by omega⟩, ?_, ?_, ?_, j9, ?_⟩
    · simp only [fJ15_append, rc0, bsm, fJ14_append, g3, nI_1, j13, rc1, la1, if_neg n1', cE', g0, g4, p3, nb, s3]
    · rw [D_n ne']
      exact D3
    · rw [hM3]
      exact (j8.mD (y := sa) (fun _ => Or.inl rfl)).mD (y := ba') (fun q => Or.inr (j9.resolve_right (by omega)))
    · rw [hM3]; exact j11
    · rw [hM3]; exact j12
    · rw [hM3]; exact j10
  have g0 : gR K (hp a M) (some sa) 21 0 = some (some ba) := d_gR (x := some ba) i1 e1 rfl
  have g1 : gI K (hp a M) (some sa) 21 1 = some 0 := d_gI i1 e1 rfl
  have rc : rcv K (hp a M) (some sa) 21 = some sa := d_rcv i1 e1
  have cn : cN K (hp a M) (some ba) 3 = some (nI cap) := d_cN i2 e2
  by_cases hcp : n < cap
  · have k1 : (nI (n + 1) - nI cap ≤ 0) = True := by rw [nI_s0 (by omega) (by omega)]; exact eq_true (by omega)
    refine fin M ba cap f i2 e1 e2 e3 hcp c2 (by omega) (FX.refl _ M) (Or.inl rfl) hba (by omega) (by omega) ?_
    simp only [fJ14_ensureCapacityInternal, g0, bsm, cn, g1, a0_31, Int32.shiftRight_zero, k1, if_true]
  · obtain rfl : n = cap := by omega
    have k1 : (nI (n + 1) - nI n ≤ 0) = False := by rw [nI_s0 (by omega) (by omega)]; exact eq_false (by omega)
    have hy : ¬ inB a (szM M) := fun z => by have := z.2.1; omega
    obtain ⟨w, w1, w2, w3, w4⟩ := newL (K := K) (h := hp a M) (cap := n) (x := 1) (z := n + 2) (by omega) (by omega) (by omega)
    obtain ⟨nc, hnc⟩ : ∃ nc, nc = n + w := ⟨_, rfl⟩
    rw [← hnc] at w4
    obtain ⟨M2, hM2⟩ : ∃ M2, M2 = mA M (iA 3 nc (fun _ => 0)) nc := ⟨_, rfl⟩
    have s2 : szM M2 = szM M + 1 := by rw [hM2]; rfl
    have t2 : slM M2 = slM M + nc := by rw [hM2]; rfl
    have D2 : M2.2.2.2.1 sa = some (.inr (21, [.ref ba, .int 0, .int ms, .int (nI n)])) := by rw [hM2, A_n (by show sa ≠ szM M; omega)]; exact e1
    have D2b : M2.2.2.2.1 ba = some (iA 3 n f) := by rw [hM2, A_n (by show ba ≠ szM M; omega)]; exact e2
    have D2n : M2.2.2.2.1 (szM M) = some (iA 3 nc (fun _ => 0)) := by rw [hM2]; exact A_s
    have F2 : FX (fun y => y = sa ∨ y = ba) M M2 := by rw [hM2]; exact (FX.refl _ M).mA
    have ac := acB_o (K := K) i2 hy D2b D2n (Nat.le_refl n) (show n ≤ nc by omega) (by omega) (fun j hj => ⟨sg j, e3 j hj, e4 j hj⟩)
    obtain ⟨M3, hM3⟩ : ∃ M3, M3 = mD M2 (szM M) (some (iA 3 nc (va_cpy f (fun _ => 0) 0 0 n))) := ⟨_, rfl⟩
    rw [← hM3] at ac
    have na : nA K (hp a M) 3 (.inl (fun _ => 0)) (nI nc) = some (hp a M2) := by rw [hM2]; exact nA_b hy (by omega) (by omega) (by omega)
    have cn2 : cN K (hp a M2) (some ba) 3 = some (nI n) := d_cN i2 D2b
    have sz0 : (hp a M).2.1 = szM M := rfl
    have nne : ¬ nI nc = nI n := fun z => by
      have := (nI_eq (by omega) (by omega)).mp z
      omega
    have cp : fJ13_copyOf_3 K (hp a M) (some ba) (nI nc) = some (hp a M3, some (szM M)) := by
      simp only [fJ13_copyOf_3, cn, bsm, if_neg nne, na, cn2, sz0, min_o (K := K) (h := hp a M2) (show n ≤ 100000 by omega) (show nc ≤ 100000 by omega) (show n ≤ nc by omega), ac]
    have q1 : nI (n + 1) - nI n = nI 1 := by rw [nI_sub (by omega)]; exact congrArg nI (by omega)
    have q2 : nI n + (2 : Int32) = nI (n + 2) := nI_add n 2
    have q3 : (nI nc = (2147483647 : Int32)) = False := by rw [show (2147483647 : Int32) = nI 2147483647 from rfl, nI_eqE (by omega) (by omega)]; exact eq_false (by omega)
    have cap' : fJ14_newCapacity K (hp a M) sa (nI (n + 1)) = some (nI nc) := by
      simp only [fJ14_newCapacity, g0, bsm, cn, g1, a0_31, Int32.shiftLeft_zero, Int32.shiftRight_zero, q1, q2, w4, q3, if_false]
    have D3 : M3.2.2.2.1 sa = some (.inr (21, [.ref ba, .int 0, .int ms, .int (nI n)])) := by rw [hM3, D_n (by omega)]; exact D2
    obtain ⟨M4, hM4⟩ : ∃ M4, M4 = mD M3 sa (some (.inr (21, [.ref (szM M), .int 0, .int ms, .int (nI n)]))) := ⟨_, rfl⟩
    have p4 : pV (hp a M3) (some sa) 21 0 (va_rf (some (szM M))) = some (hp a M4) := by rw [hM4]; exact d_pV i1 D3 (Nat.le_of_ble_eq_true rfl)
    have D4n : M4.2.2.2.1 (szM M) = some (iA 3 nc (va_cpy f (fun _ => 0) 0 0 n)) := by rw [hM4, D_n (by omega), hM3]; exact D_s
    have F4 : FX (fun y => y = sa ∨ y = ba) M M4 := by
      rw [hM4, hM3]
      exact (F2.mD (y := szM M) (fun q => absurd q (by omega))).mD (y := sa) (fun _ => Or.inl rfl)
    have s4 : szM M4 = szM M + 1 := by rw [hM4, hM3]; show szM M2 = _; omega
    have t4 : slM M4 = slM M + nc := by rw [hM4, hM3]; show slM M2 = _; omega
    refine fin M4 (szM M) nc (va_cpy f (fun _ => 0) 0 0 n) hy (by rw [hM4]; exact D_s) D4n (fun j hj => ?_) (by omega) (by omega) (by omega) F4 (Or.inr rfl) (by omega) (by omega) (by omega) ?_
    · unfold va_cpy
      rw [if_pos (by omega), show 0 + (j - 0) = j by omega]
      exact e3 j hj
    · simp only [fJ14_ensureCapacityInternal, g0, bsm, cn, g1, a0_31, Int32.shiftRight_zero, Int32.shiftLeft_zero, k1, if_false, rc, cap', cp, p4]
theorem SbX.at (X : SbX a M.2.2.2.1 sa ba n cap sg) (hk : k < n) (hn : n ≤ 5000) : rcv K (hp a M) (some sa) 21 = some sa ∧ fJ15_charAt K (hp a M) sa (nI k) = some (nI (sg k)) := by
  obtain ⟨⟨i1, i2⟩, ⟨ms, f, e1, e2, e3⟩, e4, c1, c2, c3⟩ := X
  have rc : rcv K (hp a M) (some sa) 21 = some sa := d_rcv i1 e1
  have g0 : gR K (hp a M) (some sa) 21 0 = some (some ba) := d_gR (x := some ba) i1 e1 rfl
  have g1 : gI K (hp a M) (some sa) 21 1 = some 0 := d_gI i1 e1 rfl
  have g3 : gI K (hp a M) (some sa) 21 3 = some (nI n) := d_gI i1 e1 rfl
  have cn : cN K (hp a M) (some ba) 3 = some (nI cap) := d_cN i2 e2
  have ci : cI K (hp a M) (some ba) 3 (nI k) = some (nI (sg k)) := by rw [d_cI i2 e2 (show k < cap by omega) (by omega), e3 k hk]
  have ck : fJ6_checkIndex K (hp a M) (nI k) (nI n) = some () := by
    simp only [fJ6_checkIndex, fJ8_checkIndex, nI_lt0 (show k < 2 ^ 31 by omega), if_false, nI_ltE (show k < 2 ^ 31 by omega) (show n < 2 ^ 31 by omega), if_pos hk, bsm]
  obtain ⟨w1, w2, w3⟩ := ch_w (sg k) (e4 k hk)
  refine ⟨rc, ?_⟩
  simp only [fJ15_charAt, rc, bsm, fJ14_charAt, g1, g0, g3, cn, a0_31, Int32.shiftRight_zero, min_o (K := K) (h := hp a M) (show n ≤ 100000 by omega) (show cap ≤ 100000 by omega) c1, ck, if_true, ci, w1, w2]
theorem LsX.at (X : LsX a M.2.2.2.1 la ea n cap el) (hn : n ≤ 5000) : rcv K (hp a M) (some la) 19 = some la ∧ fJ2_size K (hp a M) la = some (nI n) ∧ ∀ k, k < n → fJ2_get K (hp a M) la (nI k) = some (some (el k)) := by
  obtain ⟨⟨i1, i2⟩, ⟨mc, f, e1, e2, e3⟩, c1, c2, c3⟩ := X
  have rc : rcv K (hp a M) (some la) 19 = some la := d_rcv i1 e1
  have g1 : gR K (hp a M) (some la) 19 1 = some (some ea) := d_gR (x := some ea) i1 e1 rfl
  have g2 : gI K (hp a M) (some la) 19 2 = some (nI n) := d_gI i1 e1 rfl
  refine ⟨rc, by simp only [fJ2_size, g2, bsm], fun k hk => ?_⟩
  have cr' : cR K (hp a M) (some ea) 5 (nI k) = some (some (el k)) := by rw [d_cR i2 e2 (show k < cap by omega) (by omega), e3 k hk]
  simp only [fJ2_get, g2, bsm, fJ11_checkIndex, fJ8_checkIndex, nI_lt0 (show k < 2 ^ 31 by omega), if_false, nI_ltE (show k < 2 ^ 31 by omega) (show n < 2 ^ 31 by omega), if_pos hk, rc, fJ2_elementData, g1, cr']
theorem LsX.to {D D' : Nat → Option HE} (X : LsX a D la ea n cap el) (h1 : D' la = D la) (h2 : D' ea = D ea) : LsX a D' la ea n cap el := by
  obtain ⟨i, ⟨mc, f, e1, e2, e3⟩, c⟩ := X
  exact ⟨i, ⟨mc, f, by rw [h1]; exact e1, by rw [h2]; exact e2, e3⟩, c⟩
theorem SbX.to {D D' : Nat → Option HE} (X : SbX a D sa ba n cap sg) (h1 : D' sa = D sa) (h2 : D' ba = D ba) : SbX a D' sa ba n cap sg := by
  obtain ⟨i, ⟨mc, f, e1, e2, e3⟩, c⟩ := X
  exact ⟨i, ⟨mc, f, by rw [h1]; exact e1, by rw [h2]; exact e2, e3⟩, c⟩
theorem LsX.tm {D D' : Nat → Option HE} (X : LsX a D la ea n cap el) (h1 : ∀ e, D la = some e → D' la = some e) (h2 : ∀ e, D ea = some e → D' ea = some e) : LsX a D' la ea n cap el := by
  obtain ⟨i, ⟨mc, f, e1, e2, e3⟩, c⟩ := X
  exact ⟨i, ⟨mc, f, h1 _ e1, h2 _ e2, e3⟩, c⟩
theorem SbX.tm {D D' : Nat → Option HE} (X : SbX a D sa ba n cap sg) (h1 : ∀ e, D sa = some e → D' sa = some e) (h2 : ∀ e, D ba = some e → D' ba = some e) : SbX a D' sa ba n cap sg := by
  obtain ⟨i, ⟨mc, f, e1, e2, e3⟩, c⟩ := X
  exact ⟨i, ⟨mc, f, h1 _ e1, h2 _ e2, e3⟩, c⟩
/-- a new list -/
theorem lsNew (hb : a + 1352 ≤ szM M) (r1 : szM M + 2 ≤ K.2.2.1) (r2 : slM M + 5 ≤ K.2.2.2) : ∃ M1 M', alc K (hp a M) (.inr (19, df19)) 3 = some (hp a M1) ∧ fJ2_init K (hp a M1) (szM M) (2 : Int32) = some (hp a M') ∧ LsX a M'.2.2.2.1 (szM M) (szM M + 1) 0 2 el ∧ FX (fun _ => False) M M' ∧ szM M' = szM M + 2 ∧ slM M' = slM M + 5 := by
  have r1a : szM M + 1 ≤ K.2.2.1 := by omega
  have r2a : slM M + 3 ≤ K.2.2.2 := by omega
  have hy : ¬ inB a (szM M) := fun z => by have := z.2.1; omega
  obtain ⟨M1, hM1⟩ : ∃ M1, M1 = mA M (.inr (19, df19)) 3 := ⟨_, rfl⟩
  have s1 : szM M1 = szM M + 1 := by rw [hM1]; rfl
  have t1 : slM M1 = slM M + 3 := by rw [hM1]; rfl
  have D1 : M1.2.2.2.1 (szM M) = some (.inr (19, df19)) := by rw [hM1]; exact A_s
  obtain ⟨M2, hM2⟩ : ∃ M2, M2 = mD M1 (szM M) (some (.inr (19, [.int 0, .null, .int 0]))) := ⟨_, rfl⟩
  have p1 : pV (hp a M1) (some (szM M)) 19 0 (.int (0 : Int32)) = some (hp a M2) := by rw [hM2]; exact d_pV hy D1 (by decide)
  have hy2 : ¬ inB a (szM M2) := fun z => by
    have := z.2.1
    rw [hM2] at this
    have e : szM (mD M1 (szM M) (some (.inr (19, [.int 0, .null, .int 0])))) = szM M1 := rfl
    omega
  have s2 : szM M2 = szM M + 1 := by rw [hM2]; show szM M1 = _; omega
  have t2 : slM M2 = slM M + 3 := by rw [hM2]; show slM M1 = _; omega
  obtain ⟨M3, hM3⟩ : ∃ M3, M3 = mA M2 (rA 5 2 (fun _ => none)) 2 := ⟨_, rfl⟩
  have na : nA K (hp a M2) 5 (.inr (.inr (.inr (.inr (fun _ => none))))) (2 : Int32) = some (hp a M3) := by rw [hM3]; exact nA_r (n := 2) hy2 (by omega) (by omega) (by omega)
  have D3 : M3.2.2.2.1 (szM M) = some (.inr (19, [.int 0, .null, .int 0])) := by rw [hM3, A_n (by show szM M ≠ szM M2; omega), hM2]; exact D_s
  have D3e : M3.2.2.2.1 (szM M + 1) = some (rA 5 2 (fun _ => none)) := by rw [hM3, ← s2]; exact A_s
  have p4 : pV (hp a M3) (some (szM M)) 19 1 (va_rf (some (szM M2))) = some (hp a (mD M3 (szM M) (some (.inr (19, [.int 0, .ref (szM M2), .int 0]))))) := d_pV hy D3 (Nat.le_of_ble_eq_true rfl)
  have sz2 : (hp a M2).2.1 = szM M2 := rfl
  refine ⟨M1, mD M3 (szM M) (some (.inr (19, [.int 0, .ref (szM M2), .int 0]))), by rw [hM1]; exact d_al (M := M) hy r1a r2a, ?_, ⟨⟨hy, fun z => by have := z.2.1; omega⟩, ⟨0, fun _ => none, by rw [← s2]; exact D_s, ?_, fun j hj => absurd hj (by omega)⟩, by omega, by omega, by omega⟩, ?_, ?_, ?_⟩
  · have k1 : ((2 : Int32) ≤ 0) = False := by decide
    simp only [fJ2_init, fJ1_init, fJ0_init, bsm, p1, k1, if_false, na, sz2, p4]
  · rw [D_n (by omega)]
    exact D3e
  · rw [hM3, hM2, hM1]
    exact ((((FX.refl _ M).mA).mD (fun q => absurd q (by omega))).mA).mD (fun q => absurd q (by omega))
  · rw [hM3]; show szM M2 + 1 = _; omega
  · rw [hM3]; show slM M2 + 2 = _; omega
/-- a new builder -/
theorem sbNew (hb : a + 1352 ≤ szM M) (r1 : szM M + 2 ≤ K.2.2.1) (r2 : slM M + 20 ≤ K.2.2.2) : ∃ M1 M', alc K (hp a M) (.inr (21, df21)) 4 = some (hp a M1) ∧ fJ15_init K (hp a M1) (szM M) = some (hp a M') ∧ SbX a M'.2.2.2.1 (szM M) (szM M + 1) 0 16 sg ∧ FX (fun _ => False) M M' ∧ szM M' = szM M + 2 ∧ slM M' = slM M + 20 := by
  have r1a : szM M + 1 ≤ K.2.2.1 := by omega
  have r2a : slM M + 4 ≤ K.2.2.2 := by omega
  have hy : ¬ inB a (szM M) := fun z => by have := z.2.1; omega
  obtain ⟨M1, hM1⟩ : ∃ M1, M1 = mA M (.inr (21, df21)) 4 := ⟨_, rfl⟩
  have s1 : szM M1 = szM M + 1 := by rw [hM1]; rfl
  have t1 : slM M1 = slM M + 4 := by rw [hM1]; rfl
  have hy1 : ¬ inB a (szM M1) := fun z => by have := z.2.1; omega
  have D1 : M1.2.2.2.1 (szM M) = some (.inr (21, df21)) := by rw [hM1]; exact A_s
  obtain ⟨M3, hM3⟩ : ∃ M3, M3 = mA M1 (iA 3 16 (fun _ => 0)) 16 := ⟨_, rfl⟩
  have na : nA K (hp a M1) 3 (.inl (fun _ => 0)) (16 : Int32) = some (hp a M3) := by rw [hM3]; exact nA_b (n := 16) hy1 (by omega) (by omega) (by omega)
  have D3 : M3.2.2.2.1 (szM M) = some (.inr (21, df21)) := by rw [hM3, A_n (by show szM M ≠ szM M1; omega)]; exact D1
  have D3e : M3.2.2.2.1 (szM M + 1) = some (iA 3 16 (fun _ => 0)) := by rw [hM3, ← s1]; exact A_s
  have sz1 : (hp a M1).2.1 = szM M1 := rfl
  have p4 : pV (hp a M3) (some (szM M)) 21 0 (va_rf (some (szM M1))) = some (hp a (mD M3 (szM M) (some (.inr (21, [.ref (szM M1), .int 0, .int 0, .int 0]))))) := d_pV hy D3 (by decide)
  have D4 : (mD M3 (szM M) (some (.inr (21, [.ref (szM M1), .int 0, .int 0, .int 0])))).2.2.2.1 (szM M) = some (.inr (21, [.ref (szM M1), .int 0, .int 0, .int 0])) := D_s
  have p5 : pV (hp a (mD M3 (szM M) (some (.inr (21, [.ref (szM M1), .int 0, .int 0, .int 0]))))) (some (szM M)) 21 1 (.int (0 : Int32)) = some (hp a (mD (mD M3 (szM M) (some (.inr (21, [.ref (szM M1), .int 0, .int 0, .int 0])))) (szM M) (some (.inr (21, [.ref (szM M1), .int 0, .int 0, .int 0]))))) := d_pV hy D4 (Nat.le_of_ble_eq_true rfl)
  rw [mD_mD] at p5
  have n1' : ¬ (1 : Int32) = 0 := by decide
  refine ⟨M1, mD M3 (szM M) (some (.inr (21, [.ref (szM M1), .int 0, .int 0, .int 0]))), by rw [hM1]; exact d_al (M := M) hy r1a r2a, ?_, ⟨⟨hy, fun z => by have := z.2.1; omega⟩, ⟨0, fun _ => 0, by rw [← s1]; exact D_s, ?_, fun j hj => absurd hj (by omega)⟩, fun j hj => absurd hj (by omega), by omega, by omega, by omega⟩, ?_, ?_, ?_⟩
  · simp only [fJ15_init, fJ14_init, if_neg n1', na, bsm, sz1, p4, p5]
  · rw [D_n (by omega)]
    exact D3e
  · rw [hM3, hM1]
    exact (((FX.refl _ M).mA).mA).mD (fun q => absurd q (by omega))
  · rw [hM3]; show szM M1 + 1 = _; omega
  · rw [hM3]; show slM M1 + 16 = _; omega
end PLS

/-! PLAIN LAW, what holds between two calls -/
set_option maxRecDepth 100000
def wdL (k : Nat) : List Nat := match k with
  | 10 => [107, 105, 110, 100]
  | 11 => [102, 105, 108, 109]
  | 12 => [112, 97, 114, 116, 115]
  | 13 => [105, 115]
  | 14 => [112, 101, 114, 115, 111, 110]
  | 15 => [97, 116]
  | 16 => [116, 111]
  | 17 => [108, 105, 107, 101, 115]
  | 18 => [112, 114, 101, 115, 115]
  | 19 => [108, 101, 97, 114, 110, 115]
  | 20 => [102, 97, 100, 101, 115]
  | 21 => [109, 97, 121]
  | 22 => [115, 99, 114, 101, 101, 110, 115]
  | 23 => [112, 114, 105, 99, 101]
  | 24 => [98, 111, 116, 104, 101, 114]
  | 25 => [115, 116, 114, 97, 110, 103, 101]
  | 26 => [104, 111, 117, 114]
  | 27 => [116, 97, 115, 116, 101]
  | 28 => [119, 101, 105, 103, 104, 116]
  | 29 => [115, 101, 101, 110]
  | 30 => [115, 99, 111, 114, 101]
  | 31 => [119, 111, 114, 116, 104]
  | 32 => [110, 117, 109, 98, 101, 114]
  | 33 => [111, 114]
  | 34 => [97, 110, 100]
  | 35 => [110, 111, 116]
  | 36 => [97, 108, 108]
  | 37 => [109, 105, 110]
  | 38 => [109, 97, 120]
  | 71 => [102, 105, 114, 115, 116]
  | 72 => [108, 97, 115, 116]
  | 73 => [111, 102, 116, 101, 110]
  | 74 => [116, 111, 116, 97, 108]
  | 75 => [109, 111, 115, 116]
  | 76 => [108, 101, 97, 115, 116]
  | 77 => [110, 111, 116]
  | 78 => [97, 110, 100]
  | 79 => [111, 114]
  | 80 => [97, 108, 108]
  | 81 => [109, 105, 110]
  | 82 => [109, 97, 120]
  | 83 => [104, 111, 117, 114]
  | 84 => [116, 97, 115, 116, 101]
  | 85 => [119, 101, 105, 103, 104, 116]
  | 86 => [112, 97, 114, 116, 115]
  | 87 => [115, 101, 101, 110]
  | 88 => [115, 99, 111, 114, 101]
  | 89 => [110, 117, 109, 98, 101, 114]
  | 90 => [119, 111, 114, 116, 104]
  | _ => []
def WD (σ : MS) : Prop := ∀ k j, j < (wdL k).length → σ.2.2.1 k j = nI ((wdL k).getD j 0)
def ZP (M : CM) (σ : MS) : Prop := ∀ k, k < 1600 → ∃ c, c < 256 ∧ σ.2.2.1 0 k = nI c ∧ M.1 8 k = (nI c).toInt8.toInt32
def ZF (M : CM) (σ : MS) : Prop := M.1 0 3 = σ.1 7 ∧ M.1 0 4 = σ.1 8
def ZR (M : CM) (σ : MS) : Prop := ∀ k, k < 6 → M.1 15 k = σ.2.2.1 9 k
def ZW (M : CM) (σ : MS) (nf : Nat) : Prop := ∃ rw, rw ≤ 16 ∧ M.1 0 15 = nI rw ∧ σ.1 65 = nI rw ∧ ∀ k, k < rw → ∃ h f b, h < 24 ∧ f < nf ∧ b < 2 ∧ M.1 167 k = nI h ∧ σ.2.2.1 66 (3 * k) = nI h ∧ M.1 168 k = nI f ∧ σ.2.2.1 66 (3 * k + 1) = nI f ∧ M.1 169 k = nI b ∧ σ.2.2.1 66 (3 * k + 2) = nI b
def ZS (M : CM) (σ : MS) : Prop := ∃ s, s < 2 ^ 31 ∧ M.2.1 0 18 = lN s ∧ σ.2.1 70 = lN s
def ZO (M : CM) (σ : MS) : Prop := ∃ oc, oc ≤ 139 ∧ M.1 0 21 = nI oc ∧ σ.1 102 = nI oc ∧ ∀ k, k < oc → ∃ c, c < 256 ∧ σ.2.2.1 101 k = nI c ∧ M.1 1351 k &&& 255 = nI c
/-- which slice of the ring belongs to kept State j -/
def rg (u nw j : Nat) : Nat := (nw + 20 - (u - 1 - j)) % 20
def KS (a : Nat) (M : CM) (i : Nat) (g : Nat → Int32) (np : Nat) (pt : Nat → Nat) : Prop := ∃ hr π kp, (hr ≤ 23999 ∧ pt 9 = 0) ∧ SR M i g np pt hr ∧ RS a M i π kp ∧ KR M i g π kp
def ZU (a : Nat) (M : CM) (σ : MS) (np : Nat) (pt : Nat → Nat) : Prop := ∃ (u nw : Nat) (κ : Nat → Nat), u ≤ 20 ∧ nw < 20 ∧ M.1 0 17 = nI u ∧ σ.1 68 = nI u ∧ σ.1 69 = nI nw ∧ (∀ j, j < 20 → κ j < 20 ∧ M.2.2.1 170 j = some (a + sbo (2 + κ j))) ∧ (∀ i j, i < 20 → j < 20 → κ i = κ j → i = j) ∧ ∀ j, j < u → KS a M (2 + κ j) (fun t => σ.2.2.1 67 (257 * rg u nw j + t)) np pt
def RA (a : Nat) (M : CM) : Prop := ∀ i, i < 22 → ∃ π kp, RS a M i π kp
/-- room: cells and slots, what the tape's bytes and the calls to come may take -/
def cA : Nat := 400
def cB : Nat := 9000
def sA' : Nat := 4000
def sB' : Nat := 90000
def AL (K : KE) (a : Nat) (M : CM) (tp n : Nat) : Prop := a + 1352 + 74 ≤ M.2.2.2.2.1 ∧ M.2.2.2.2.1 + cA * tp + (64 - n) * cB ≤ K.2.2.1 ∧ M.2.2.2.2.2 + sA' * tp + (64 - n) * sB' ≤ K.2.2.2 ∧ (∀ y, y < a → M.2.2.2.1 y = none)
def ZT (K : KE) (a : Nat) (M : CM) (σ : MS) (n : Nat) : Prop := ∃ tp, tp ≤ 1600 ∧ M.1 0 2 = nI tp ∧ σ.1 1 = nI tp ∧ AL K a M tp n
def RE (K : KE) (a : Nat) (M : CM) (σ : MS) (n nf np : Nat) (pt : Nat → Nat) : Prop := RA a M ∧ ZT K a M σ n ∧ ZP M σ ∧ ZF M σ ∧ ZR M σ ∧ ZW M σ nf ∧ ZS M σ ∧ ZO M σ ∧ ZU a M σ np pt ∧ σ.1 60 = 0 ∧ WD σ
def IV (K : KE) (a : Nat) (h : HS) (σ : MS) (n : Nat) : Prop := ∃ M nk nf np pt vl vf vm, h = hp a M ∧ HX a M σ nk nf np pt vl vf vm ∧ HTs K a M.2.2.2.1 σ vl vf vm ∧ KS a M 0 (σ.2.2.1 54) np pt ∧ RE K a M σ n nf np pt
/-- what the rest rests on, of the twin -/
def TE (σ σ' : MS) : Prop := (∀ k, k = 1 ∨ k = 7 ∨ k = 8 ∨ k = 60 ∨ k = 65 ∨ k = 68 ∨ k = 69 ∨ k = 102 → σ'.1 k = σ.1 k) ∧ σ'.2.1 70 = σ.2.1 70 ∧ (∀ k, k = 0 ∨ k = 9 ∨ k = 66 ∨ k = 67 ∨ k = 101 ∨ 10 ≤ k ∧ k ≤ 38 ∨ 71 ≤ k ∧ k ≤ 90 → σ'.2.2.1 k = σ.2.2.1 k)
/-- of the component -/
def ME (M M' : CM) : Prop := (∀ o, o < 9 ∨ o = 15 ∨ 134 ≤ o → M'.1 o = M.1 o) ∧ M'.2.1 0 = M.2.1 0 ∧ (∀ o, 134 ≤ o → M'.2.2.1 o = M.2.2.1 o) ∧ M'.2.2.2 = M.2.2.2
section PIV
variable {K : KE} {a i n nf np : Nat} {M M' M1 M2 : CM} {σ σ' σ1 σ2 : MS} {pt : Nat → Nat} {g g' : Nat → Int32}
theorem TE.refl (σ : MS) : TE σ σ := ⟨fun _ _ => rfl, rfl, fun _ _ => rfl⟩
theorem TE.tr (h : TE σ σ1) (g : TE σ1 σ2) : TE σ σ2 := ⟨fun k q => (g.1 k q).trans (h.1 k q), g.2.1.trans h.2.1, fun k q => (g.2.2 k q).trans (h.2.2 k q)⟩
theorem ME.refl (M : CM) : ME M M := ⟨fun _ _ => rfl, rfl, fun _ _ => rfl, rfl⟩
theorem ME.tr (h : ME M M1) (g : ME M1 M2) : ME M M2 := ⟨fun o q => (g.1 o q).trans (h.1 o q), g.2.1.trans h.2.1, fun o q => (g.2.2.1 o q).trans (h.2.2.1 o q), g.2.2.2.trans h.2.2.2⟩
theorem TF.te (h : TF σ σ') : TE σ σ' := ⟨fun k q => h.1 k (by omega) (by omega) (by omega) (by omega) (by omega), by rw [h.2.1], fun k q => h.2.2.1 k (by omega) (by omega) (by omega)⟩
theorem MF.me (hi : i < 2) (h : MF i M M') : ME M M' := by
  have := sbo_c i
  exact ⟨fun o q => h.1 o (by omega), h.2.1 0 (by omega) (by omega), fun o q => h.2.2.1 o (by omega), h.2.2.2⟩
theorem KS.to (S : KS a M i g np pt) (hi : i < 22) (hn : np ≤ 5) (e1 : ∀ t, t < 59 → M'.1 (sbo i + t) = M.1 (sbo i + t)) (e2 : M'.2.2.1 (sbo i + 16) = M.2.2.1 (sbo i + 16)) (e3 : ∀ j, j < 257 → g' j = g j) : KS a M' i g' np pt := by
  obtain ⟨hr, π, kp, h1, h2, h3, h4⟩ := S
  have e0 := e1 0 (by omega)
  rw [Nat.add_zero] at e0
  refine ⟨hr, π, kp, h1, h2.m (fun t ht => e1 t (by omega)) (fun j hj => e3 j (by omega)) hn, h3.to (by rw [e0]) e2, ?_⟩
  have h5 := h3.1
  refine ⟨by rw [e3 96 (by omega)]; exact h4.1, fun k j hk hj => ?_⟩
  have := (h3.2.2.1 k (by omega)).1
  rw [e1 _ (by omega), e3 _ (by omega)]
  exact h4.2 k j hk hj
theorem WD.te (h : WD σ) (t : TE σ σ') : WD σ' := fun k j hj => by
  have hk : 10 ≤ k ∧ k ≤ 38 ∨ 71 ≤ k ∧ k ≤ 90 := by
    by_cases q : 10 ≤ k ∧ k ≤ 38 ∨ 71 ≤ k ∧ k ≤ 90
    · exact q
    · exfalso
      have : wdL k = [] := by
        unfold wdL
        split <;> first | rfl | omega
      rw [this] at hj
      simp at hj
  rw [t.2.2 k (by omega)]
  exact h k j hj
theorem ZU.to (Z : ZU a M σ np pt) (hn : np ≤ 5) (e0 : M'.1 0 17 = M.1 0 17) (m : ∀ o, 134 ≤ o → o < 1351 → M'.1 o = M.1 o) (m3 : ∀ o, 134 ≤ o → M'.2.2.1 o = M.2.2.1 o) (t : TE σ σ') : ZU a M' σ' np pt := by
  obtain ⟨u, nw, κ, h1, h2, h3, h4, h5, h6, h7, h8⟩ := Z
  refine ⟨u, nw, κ, h1, h2, by rw [e0]; exact h3, by rw [t.1 68 (by omega)]; exact h4, by rw [t.1 69 (by omega)]; exact h5, fun j hj => by rw [m3 170 (by omega)]; exact h6 j hj, h7, fun j hj => ?_⟩
  have hk := (h6 j (by omega)).1
  have hs := sbo_c (2 + κ j)
  exact (h8 j hj).to (by omega) hn (fun t' ht => m _ (by omega) (by omega)) (m3 _ (by omega)) (fun j _ => by rw [t.2.2 67 (by omega)])
theorem RE.fr (E : RE K a M σ n nf np pt) (hn : np ≤ 5) (m : ME M M') (t : TE σ σ') (r0 : ∃ π kp, RS a M' 0 π kp) (r1 : ∃ π kp, RS a M' 1 π kp) : RE K a M' σ' n nf np pt := by
  obtain ⟨h1, ⟨tp, z1, z2, z3, z4⟩, h3, h4, h5, h6, h7, h8, h9, h10, h11⟩ := E
  refine ⟨fun i hi => ?_, ⟨tp, z1, by rw [m.1 0 (by omega)]; exact z2, by rw [t.1 1 (by omega)]; exact z3, by unfold AL; rw [m.2.2.2]; exact z4⟩, fun k hk => ?_, ⟨by rw [m.1 0 (by omega), t.1 7 (by omega)]; exact h4.1, by rw [m.1 0 (by omega), t.1 8 (by omega)]; exact h4.2⟩, fun k hk => by rw [m.1 15 (by omega), t.2.2 9 (by omega)]; exact h5 k hk, ?_, ?_, ?_, h9.to hn (by rw [m.1 0 (by omega)]) (fun o h1 h2 => m.1 o (by omega)) m.2.2.1 t, by rw [t.1 60 (by omega)]; exact h10, h11.te t⟩
  · have hs := sbo_c i
    rcases hs with ⟨hs, -⟩ | ⟨hs, -⟩ | ⟨hs, hs2⟩
    · rw [hs]; exact r0
    · rw [hs]; exact r1
    · obtain ⟨π, kp, R⟩ := h1 i hi
      exact ⟨π, kp, R.to (by rw [m.1 _ (by omega)]) (m.2.2.1 _ (by omega))⟩
  · rw [t.2.2 0 (by omega), m.1 8 (by omega)]
    exact h3 k hk
  · obtain ⟨rw', q1, q2, q3, q4⟩ := h6
    refine ⟨rw', q1, by rw [m.1 0 (by omega)]; exact q2, by rw [t.1 65 (by omega)]; exact q3, fun k hk => ?_⟩
    rw [m.1 167 (by omega), m.1 168 (by omega), m.1 169 (by omega), t.2.2 66 (by omega)]
    exact q4 k hk
  · obtain ⟨s, q1, q2, q3⟩ := h7
    exact ⟨s, q1, by rw [m.2.1]; exact q2, by rw [t.2.1]; exact q3⟩
  · obtain ⟨oc, q1, q2, q3, q4⟩ := h8
    exact ⟨oc, q1, by rw [m.1 0 (by omega)]; exact q2, by rw [t.1 102 (by omega)]; exact q3, fun k hk => by rw [t.2.2 101 (by omega), m.1 1351 (by omega)]; exact q4 k hk⟩
theorem ZT.next (h : ZT K a M σ n) : ZT K a M σ (n + 1) := by
  obtain ⟨tp, z1, z2, z3, z4, z5, z6, z7⟩ := h
  refine ⟨tp, z1, z2, z3, z4, ?_, ?_, z7⟩
  · have : (64 - (n + 1)) * cB ≤ (64 - n) * cB := Nat.mul_le_mul_right _ (by omega)
    omega
  · have : (64 - (n + 1)) * sB' ≤ (64 - n) * sB' := Nat.mul_le_mul_right _ (by omega)
    omega
theorem RE.next (E : RE K a M σ n nf np pt) : RE K a M σ (n + 1) nf np pt := ⟨E.1, E.2.1.next, E.2.2⟩
theorem IV.next {h : HS} (E : IV K a h σ n) : IV K a h σ (n + 1) := by
  obtain ⟨M, nk, nf, np, pt, vl, vf, vm, h1, h2, h3, h4, h5⟩ := E
  exact ⟨M, nk, nf, np, pt, vl, vf, vm, h1, h2, h3, h4, h5.next⟩
theorem IV.o {h : HS} (E : IV K a h σ n) : ∃ fs, rd K h a = some (.inr (0, fs)) := by
  obtain ⟨M, nk, nf, np, pt, vl, vf, vm, h1, -⟩ := E
  subst h1
  exact ⟨_, rd_s (hp_at (o := 0) (by omega) (Or.inl rfl))⟩
end PIV

/-! HOUSE, the switches -/
set_option maxRecDepth 100000
def toldW : List (List Nat) := [wdL 10, wdL 11, wdL 14, wdL 17, wdL 18]
def moreW : List (List Nat) := [wdL 19, wdL 20, wdL 21, wdL 22, wdL 23, wdL 24, wdL 25]
def CH (K : KE) (a : Nat) : Prop := (CT K a 10 (wdL 10) ∧ CT K a 11 (wdL 11) ∧ CT K a 12 (wdL 14) ∧ CT K a 13 (wdL 17) ∧ CT K a 14 (wdL 18)) ∧ (CT K a 19 (wdL 19) ∧ CT K a 20 (wdL 20) ∧ CT K a 21 (wdL 21) ∧ CT K a 22 (wdL 22) ∧ CT K a 23 (wdL 23) ∧ CT K a 24 (wdL 24) ∧ CT K a 25 (wdL 25))
section PSW
variable {K : KE} {a i n q e y k : Nat} {M M' : CM} {B : Nat → Nat} {w : List Nat}
theorem hs_app : ∀ (l : List Nat) (j : Nat) (x : Int32), (∀ i, i < l.length → B (q + j + i) = l.getD i 0) → x = hsF B q j → hsF B q (j + l.length) = hsL l x
  | [], j, x, _, hx => by rw [hx]; rfl
  | c :: l, j, x, h, hx => by
    have h0 : B (q + j) = c := h 0 (by simp)
    have := hs_app l (j + 1) (31 * x + nI c) (fun i hi => by
      have := h (i + 1) (by simp; omega)
      rw [show q + (j + 1) + i = q + j + (i + 1) by omega]
      simpa using this) (by rw [hx, ← h0]; rfl)
    rw [List.length_cons, show j + (l.length + 1) = j + 1 + l.length by omega]
    exact this
theorem hs_w (h : WQ B q e w) : hsF B q (e - q) = hsL w 0 := by
  have := hs_app (B := B) (q := q) w 0 0 (fun i hi => by rw [Nat.add_zero]; exact h.2 i hi) rfl
  rw [Nat.zero_add] at this
  rw [h.1]
  exact this
/-- told -/
theorem told_o (C : CH K a) (S : StO a M.2.2.2.1 B q e y) (hy : a ≤ y) (hN : ∀ y, y < a → M.2.2.2.1 y = none) (hB : ∀ k, k < 1600 → B k < 256) (he : e ≤ 1600) : ∃ M', (∀ x, fX2_told K (hp a M) (a + 9) (some y) x = fX2_told_132 K (a + 9) (hp a M') x (oI (fd B q e toldW))) ∧ StO a M'.2.2.2.1 B q e y ∧ (M' = M ∨ ∃ e', M' = mD M y (some e')) := by
  obtain ⟨c0, c1, c2, c3, c4⟩ := C.1
  obtain ⟨M', h1, h2, h3⟩ := hash_o (K := K) S (by omega) (fun i hi => hB (q + i) (by omega))
  have hN' : ∀ y, y < a → M'.2.2.2.1 y = none := fun z hz => by
    rcases h3 with rfl | ⟨e', rfl⟩
    · exact hN z hz
    · rw [D_n (by omega)]; exact hN z hz
  have rc : rcv K (hp a M) (some y) 20 = some y := by
    obtain ⟨i1, va, f, hs, hz, i2, i3, i4, i5⟩ := S
    exact d_rcv i1 i3
  have rc' : rcv K (hp a M') (some y) 20 = some y := by
    obtain ⟨i1, va, f, hs, hz, i2, i3, i4, i5⟩ := h2
    exact d_rcv i1 i3
  have e0 := eqW h2 c0 hN' hB he
  have e1 := eqW h2 c1 hN' hB he
  have e2 := eqW h2 c2 hN' hB he
  have e3 := eqW h2 c3 hN' hB he
  have e4 := eqW h2 c4 hN' hB he
  refine ⟨M', fun x => ?_, h2, h3⟩
  have fe : fd B q e toldW = if WQ B q e (wdL 10) then some 0 else if WQ B q e (wdL 11) then some 1 else if WQ B q e (wdL 14) then some 2 else if WQ B q e (wdL 17) then some 3 else if WQ B q e (wdL 18) then some 4 else none := rfl
  rw [fe]
  simp only [fX2_told, rc, bsm, h1, rc', e0, e1, e2, e3, e4]
  by_cases z0 : WQ B q e (wdL 10)
  · have hh : hsF B q (e - q) = hsL (wdL 10) 0 := hs_w z0
    rw [hh]
    simp only [if_pos z0]
    rfl
  by_cases z1 : WQ B q e (wdL 11)
  · have hh : hsF B q (e - q) = hsL (wdL 11) 0 := hs_w z1
    rw [hh]
    simp only [if_pos z1, if_neg z0]
    rfl
  by_cases z2 : WQ B q e (wdL 14)
  · have hh : hsF B q (e - q) = hsL (wdL 14) 0 := hs_w z2
    rw [hh]
    simp only [if_pos z2, if_neg z0, if_neg z1]
    rfl
  by_cases z3 : WQ B q e (wdL 17)
  · have hh : hsF B q (e - q) = hsL (wdL 17) 0 := hs_w z3
    rw [hh]
    simp only [if_pos z3, if_neg z0, if_neg z1, if_neg z2]
    rfl
  by_cases z4 : WQ B q e (wdL 18)
  · have hh : hsF B q (e - q) = hsL (wdL 18) 0 := hs_w z4
    rw [hh]
    simp only [if_pos z4, if_neg z0, if_neg z1, if_neg z2, if_neg z3]
    rfl
  simp only [if_neg z0, if_neg z1, if_neg z2, if_neg z3, if_neg z4, if_true]
  repeat' split
  all_goals rfl
/-- more -/
theorem more_o (C : CH K a) (S : StO a M.2.2.2.1 B q e y) (hy : a ≤ y) (hN : ∀ y, y < a → M.2.2.2.1 y = none) (hB : ∀ k, k < 1600 → B k < 256) (he : e ≤ 1600) : ∃ M', (∀ x, fX2_more K (hp a M) (a + 9) (some y) x = fX2_more_179 K (a + 9) (hp a M') x (oI (fd B q e moreW))) ∧ StO a M'.2.2.2.1 B q e y ∧ (M' = M ∨ ∃ e', M' = mD M y (some e')) := by
  obtain ⟨c0, c1, c2, c3, c4, c5, c6⟩ := C.2
  obtain ⟨M', h1, h2, h3⟩ := hash_o (K := K) S (by omega) (fun i hi => hB (q + i) (by omega))
  have hN' : ∀ y, y < a → M'.2.2.2.1 y = none := fun z hz => by
    rcases h3 with rfl | ⟨e', rfl⟩
    · exact hN z hz
    · rw [D_n (by omega)]; exact hN z hz
  have rc : rcv K (hp a M) (some y) 20 = some y := by
    obtain ⟨i1, va, f, hs, hz, i2, i3, i4, i5⟩ := S
    exact d_rcv i1 i3
  have rc' : rcv K (hp a M') (some y) 20 = some y := by
    obtain ⟨i1, va, f, hs, hz, i2, i3, i4, i5⟩ := h2
    exact d_rcv i1 i3
  have e0 := eqW h2 c0 hN' hB he
  have e1 := eqW h2 c1 hN' hB he
  have e2 := eqW h2 c2 hN' hB he
  have e3 := eqW h2 c3 hN' hB he
  have e4 := eqW h2 c4 hN' hB he
  have e5 := eqW h2 c5 hN' hB he
  have e6 := eqW h2 c6 hN' hB he
  refine ⟨M', fun x => ?_, h2, h3⟩
  have fe : fd B q e moreW = if WQ B q e (wdL 19) then some 0 else if WQ B q e (wdL 20) then some 1 else if WQ B q e (wdL 21) then some 2 else if WQ B q e (wdL 22) then some 3 else if WQ B q e (wdL 23) then some 4 else if WQ B q e (wdL 24) then some 5 else if WQ B q e (wdL 25) then some 6 else none := rfl
  rw [fe]
  simp only [fX2_more, rc, bsm, h1, rc', e0, e1, e2, e3, e4, e5, e6]
  by_cases z0 : WQ B q e (wdL 19)
  · have hh : hsF B q (e - q) = hsL (wdL 19) 0 := hs_w z0
    rw [hh]
    simp only [if_pos z0]
    rfl
  by_cases z1 : WQ B q e (wdL 20)
  · have hh : hsF B q (e - q) = hsL (wdL 20) 0 := hs_w z1
    rw [hh]
    simp only [if_pos z1, if_neg z0]
    rfl
  by_cases z2 : WQ B q e (wdL 21)
  · have hh : hsF B q (e - q) = hsL (wdL 21) 0 := hs_w z2
    rw [hh]
    simp only [if_pos z2, if_neg z0, if_neg z1]
    rfl
  by_cases z3 : WQ B q e (wdL 22)
  · have hh : hsF B q (e - q) = hsL (wdL 22) 0 := hs_w z3
    rw [hh]
    simp only [if_pos z3, if_neg z0, if_neg z1, if_neg z2]
    rfl
  by_cases z4 : WQ B q e (wdL 23)
  · have hh : hsF B q (e - q) = hsL (wdL 23) 0 := hs_w z4
    rw [hh]
    simp only [if_pos z4, if_neg z0, if_neg z1, if_neg z2, if_neg z3]
    rfl
  by_cases z5 : WQ B q e (wdL 24)
  · have hh : hsF B q (e - q) = hsL (wdL 24) 0 := hs_w z5
    rw [hh]
    simp only [if_pos z5, if_neg z0, if_neg z1, if_neg z2, if_neg z3, if_neg z4]
    rfl
  by_cases z6 : WQ B q e (wdL 25)
  · have hh : hsF B q (e - q) = hsL (wdL 25) 0 := hs_w z6
    rw [hh]
    simp only [if_pos z6, if_neg z0, if_neg z1, if_neg z2, if_neg z3, if_neg z4, if_neg z5]
    rfl
  simp only [if_neg z0, if_neg z1, if_neg z2, if_neg z3, if_neg z4, if_neg z5, if_neg z6, if_true]
  repeat' split
  all_goals rfl
end PSW

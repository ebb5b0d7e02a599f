/-! PLAIN LAW, more cells than before: the house stands as it was -/
set_option maxRecDepth 100000
def DS (D D' : Nat → Option HE) : Prop := ∀ y e, D y = some e → D' y = some e
section PMO
variable {K : KE} {a ha la n k f p w na : Nat} {M M' : CM} {D D' : Nat → Option HE} {σ σ' : MS} {el : Nat → Nat} {nk nf np : Nat} {pt : Nat → Nat} {vl vf vm v : Option Nat} {x : Int64} {al : Nat → Prop}
theorem LsO.mo (h : DS D D') (L : LsO a D la n el) : LsO a D' la n el := by
  obtain ⟨h0, ea, cap, mc, f, h1, h2, h3, h4⟩ := L
  exact ⟨h0, ea, cap, mc, f, h1, h _ _ h2, h _ _ h3, h4⟩
theorem NmO.mo (h : DS D D') (L : NmO a D na x) : NmO a D' na x := by
  obtain ⟨h0, va, n, g, hs, hz, h1, h2, h3, h4⟩ := L
  exact ⟨h0, va, n, g, hs, hz, h1, h _ _ h2, h _ _ h3, h4⟩
theorem HO.mo (h : DS D D') (O : HO a ha D σ nk nf np vl vf vm) : HO a ha D' σ nk nf np vl vf vm := by
  obtain ⟨i, st, pr, lk, lf, lp, ek, ef, ep, h1, h2, h3, h4, h5, h6, h7⟩ := O
  refine ⟨i, st, pr, lk, lf, lp, ek, ef, ep, h _ _ h1, h2.mo h, h3.mo h, h4.mo h, fun k hk => ?_, fun f hf => ?_, fun p hp => ?_⟩
  · obtain ⟨na, q1, q2⟩ := h5 k hk
    exact ⟨na, h _ _ q1, q2.mo h⟩
  · obtain ⟨na, ia, g, q1, q2, q3, q4, q5⟩ := h6 f hf
    exact ⟨na, ia, g, q1, h _ _ q2, h _ _ q3, q4, q5.mo h⟩
  · obtain ⟨na, ia, g, q1, q2, q3, q4, q5⟩ := h7 p hp
    exact ⟨na, ia, g, q1, h _ _ q2, h _ _ q3, q4, q5.mo h⟩
theorem HX.mo (h : DS M.2.2.2.1 M'.2.2.2.1) (e : M'.2.2.1 0 0 = M.2.2.1 0 0) (X : HX a M σ nk nf np pt vl vf vm) : HX a M' σ nk nf np pt vl vf vm := by
  obtain ⟨ha, h1, h2, h3⟩ := X
  exact ⟨ha, by rw [e]; exact h1, h2.mo h, h3⟩
theorem HT.mo (h : DS D D') (T : HT K a D σ w al v) : HT K a D' σ w al v := by
  rcases T with T | ⟨r, cs, lo, hi, h1, h2, h3, h4⟩
  · exact Or.inl T
  · exact Or.inr ⟨r, cs, lo, hi, h1, h2, h3, fun M hM => h4 M (fun y x a b q => hM y x a b (h y x q))⟩
theorem HTt.mo (h : DS D D') (T : HTt K a D σ w al v) : HTt K a D' σ w al v := by
  rcases T with T | ⟨r, cs, lo, hi, h1, h2, h3, h4⟩
  · exact Or.inl T
  · exact Or.inr ⟨r, cs, lo, hi, h1, h2, h3, fun M hM => h4 M (fun y x a b q => hM y x a b (h y x q))⟩
theorem HTs.mo (h : DS D D') (T : HTs K a D σ vl vf vm) : HTs K a D' σ vl vf vm := ⟨T.1.mo h, T.2.1.mo h, T.2.2.mo h⟩
end PMO
-- the twin's codes of a question
section PQR
variable {ev : Nat → Int64} {fo : Int64 → Int64} {cs : List Nat} {v : Int64} {f : Nat} {σ σ' : MS}
theorem qt_run (σ0 : MS) : ∀ (cs : List Nat) (st st' : List Int64) (b : Nat) (σ : MS) (fuel : Nat), cs.length < fuel → b + cs.length ≤ 1602 → st.length + cs.length < 1690 → QF σ0 σ → PL σ st → rn ev fo cs st = some st' → σ0.1 92 = nI (b + cs.length) → (∀ i, i < cs.length → σ0.2.2.1 91 (b + i) = nI (cs.getD i 0)) → (∀ c, c ∈ cs → okd 3 c) → (∀ σ', QF σ0 σ' → ∀ j, j = 0 ∨ 3 ≤ j ∧ j < 8 → ∃ x, fX6_qPartOf σ' (nI j) (nI f) = some x ∧ clp x = ev j) → (∀ σ', QF σ0 σ' → ∀ x, ∃ y, fX6_qOf σ' 0 x (nI f) = some y ∧ clp y = fo x) → ∃ σ', fX6_qTold_7 fuel σ (nI f) (nI b) = (aL σ' 97 0).bind (fun v => some (σ', v)) ∧ PL σ' st' ∧ QF σ0 σ' := by
  intro cs
  induction cs with
  | nil =>
    intro st st' b σ fuel hf hb hs Q P hr h92 h91 hc hp hq
    obtain ⟨n, rfl⟩ : ∃ n, fuel = n + 1 := ⟨fuel - 1, by simp at hf; omega⟩
    cases hr
    refine ⟨σ, ?_, P, Q⟩
    have e1 : σ.1 92 = nI b := by rw [Q.2.2.1 92 (by omega), h92]; rfl
    simp only [fX6_qTold_7, e1, if_pos (nI_le (Nat.le_refl b) (show b < 2 ^ 31 by simp at hb; omega))]
  | cons c cs ih =>
    intro st st' b σ fuel hf hb hs Q P hr h92 h91 hc hp hq
    simp only [List.length_cons] at hf hb hs h92 h91
    obtain ⟨n, rfl⟩ : ∃ n, fuel = n + 1 := ⟨fuel - 1, by omega⟩
    have e1 : σ.1 92 = nI (b + (cs.length + 1)) := by rw [Q.2.2.1 92 (by omega), h92]
    have e2 : aI σ 91 (nI b) = some (nI c) := by
      have := h91 0 (by omega)
      rw [tg91 (by omega), Q.1]
      simpa using this
    obtain ⟨hc1, hc2⟩ := hc c (by simp)
    simp only [rn] at hr
    obtain ⟨s1, hs1, hr⟩ := ob hr
    have hl := stp_len hs1
    have key : ∃ σ1, fX6_qTold_7 (n + 1) σ (nI f) (nI b) = fX6_qTold_7 n σ1 (nI f) (nI (b + 1)) ∧ PL σ1 s1 ∧ QF σ0 σ1 := by
      simp only [fX6_qTold_7]
      rw [e1, if_neg (nI_ge (show b < b + (cs.length + 1) by omega) (by omega)), e2, bsm]
      unfold stp at hs1
      by_cases k1 : 1000 ≤ c
      · rw [if_pos k1] at hs1
        cases hs1
        obtain ⟨σ1, q1, q2, q3⟩ := puts P (by omega) (lN (c - 1000))
        refine ⟨σ1, ?_, q2, Q.tr q3⟩
        rw [if_neg (by rw [ki1000]; exact nI_nlt k1 (by omega)), ki1000, nI_sub k1, nI_l (by omega), q1]
        simp only [bsm, fX6_qTold_162, nI_1]
      rw [if_neg k1] at hs1
      rw [if_pos (by rw [ki1000]; exact nI_lt (by omega) (by omega))]
      by_cases k2 : 60 ≤ c
      · have c60 : c = 60 := by
          rcases hc2 with h | h | h | h
          · omega
          · omega
          · omega
          · exact h.2
        rw [if_pos k2] at hs1
        cases st with
        | nil => cases hs1
        | cons x st =>
          cases hs1
          obtain ⟨p1, p2⟩ := PL_one P
          obtain ⟨y, y1, y2⟩ := hq σ Q x
          obtain ⟨q2, q3⟩ := PL_set P (fo x)
          refine ⟨_, ?_, q2, Q.tr q3⟩
          simp only [List.length_cons] at hs
          have e60 : nI c - (60 : Int32) = 0 := by rw [c60]; decide
          rw [if_neg (by rw [ki60]; exact nI_nlt k2 (by omega)), p1, nI_m1 (by omega), Nat.add_sub_cancel, tg97 (by omega), p2, bsm, e60, y1, bsm, clip_o, bsm, y2, tp97 (by omega)]
          simp only [bsm, fX6_qTold_162, nI_1]
      rw [if_neg k2] at hs1
      rw [if_pos (by rw [ki60]; exact nI_lt (by omega) (by omega))]
      by_cases k3 : 40 ≤ c
      · rw [if_pos k3] at hs1
        cases hs1
        obtain ⟨σ1, q1, q2, q3⟩ := puts P (by omega) (ev (c - 40))
        refine ⟨σ1, ?_, q2, Q.tr q3⟩
        have hj : c - 40 = 0 ∨ 3 ≤ c - 40 ∧ c - 40 < 8 := by
          rcases hc2 with h | ⟨h1, h2, h3⟩ | h | h
          · omega
          · unfold alw at h3
            omega
          · omega
          · omega
        obtain ⟨x, x1, x2⟩ := hp σ Q (c - 40) hj
        rw [if_neg (by rw [ki40]; exact nI_nlt k3 (by omega)), ki40, nI_sub k3, x1, bsm, clip_o, bsm, x2, q1]
        simp only [bsm, fX6_qTold_162, nI_1]
      rw [if_neg k3] at hs1
      rw [if_pos (by rw [ki40]; exact nI_lt (by omega) (by omega))]
      have c13 : 1 ≤ c ∧ c ≤ 13 := by
        rcases hc2 with h | ⟨h1, h2, h3⟩ | h | h
        · exact h
        · omega
        · omega
        · omega
      by_cases k4 : c = 13
      · rw [if_pos k4] at hs1
        cases hs1
        obtain ⟨σ1, q1, q2, q3⟩ := puts P (by omega) 1
        refine ⟨σ1, ?_, q2, Q.tr q3⟩
        rw [if_pos (by rw [k4]; rfl), q1]
        simp only [bsm, fX6_qTold_162, nI_1]
      rw [if_neg k4] at hs1
      rw [if_neg (by rw [ki13, nI_eqE (by omega) (by omega)]; exact k4)]
      by_cases k5 : c = 12
      · rw [if_pos k5] at hs1
        cases st with
        | nil => cases hs1
        | cons x st =>
          cases hs1
          obtain ⟨p1, p2⟩ := PL_one P
          obtain ⟨q2, q3⟩ := PL_set P (1 - x)
          refine ⟨_, ?_, q2, Q.tr q3⟩
          simp only [List.length_cons] at hs
          rw [if_pos (by rw [k5]; rfl), p1, nI_m1 (by omega), Nat.add_sub_cancel, tg97 (by omega), p2, bsm, tp97 (by omega)]
          simp only [bsm, fX6_qTold_162, nI_1]
      rw [if_neg k5] at hs1
      rw [if_neg (by rw [ki12, nI_eqE (by omega) (by omega)]; exact k5)]
      cases st with
      | nil => cases hs1
      | cons y st =>
        cases st with
        | nil => cases hs1
        | cons x st =>
          cases hs1
          simp only [List.length_cons] at hs
          obtain ⟨σ1, q1, q2, q3⟩ := joins P (by omega) (show 1 ≤ c by omega) (by omega)
          refine ⟨σ1, ?_, q2, Q.tr q3⟩
          rw [q1]
          simp only [bsm, fX6_qTold_162, nI_1]
    obtain ⟨σ1, q1, q2, q3⟩ := key
    rw [q1]
    refine ih s1 st' (b + 1) σ1 n (by omega) (by omega) (by omega) q3 q2 hr (by rw [h92]; congr 1; omega) (fun i hi => ?_) (fun c' hc' => hc c' (by simp [hc'])) hp hq
    have := h91 (i + 1) (by omega)
    rw [show b + 1 + i = b + (i + 1) by omega, this]
    simp
/-- what a question's codes tell at film f -/
theorem qTold_ok (hv : CV ev fo cs v) (hl : cs.length ≤ 1602) (h92 : σ.1 92 = nI cs.length) (h91 : OtO (σ.2.2.1 91) cs) (hc : ∀ c, c ∈ cs → okd 3 c) (hp : ∀ σ', QF σ σ' → ∀ j, j = 0 ∨ 3 ≤ j ∧ j < 8 → ∃ x, fX6_qPartOf σ' (nI j) (nI f) = some x ∧ clp x = ev j) (hq : ∀ σ', QF σ σ' → ∀ x, ∃ y, fX6_qOf σ' 0 x (nI f) = some y ∧ clp y = fo x) : ∃ σ', fX6_qTold σ (nI f) = some (σ', v) ∧ QF σ σ' := by
  have Q0 : QF σ (sI σ 98 0) := ⟨rfl, rfl, fun k hk => sI_n hk, fun _ _ => rfl⟩
  have P : PL (sI σ 98 0) [] := ⟨by rw [sI_s]; rfl, fun i hi => absurd hi (by simp)⟩
  obtain ⟨σ', e1, e2, e3⟩ := qt_run (ev := ev) (fo := fo) (f := f) σ cs [] [v] 0 (sI σ 98 0) FU (FU_lt (by omega)) (by omega) (by simp; omega) Q0 P (hv []) (by rw [Nat.zero_add]; exact h92) (fun i hi => by rw [Nat.zero_add]; exact h91 i hi) hc hp hq
  obtain ⟨p1, p2⟩ := PL_one e2
  have g2 : aL σ' 97 0 = some v := by
    rw [show (0 : Int32) = nI 0 from rfl, tg97 (by omega)]
    exact congrArg some p2
  refine ⟨σ', ?_, e3⟩
  have e1' : fX6_qTold_7 FU (sI σ 98 0) (nI f) 0 = (aL σ' 97 0).bind (fun v => some (σ', v)) := e1
  unfold fX6_qTold
  rw [e1', g2]
  rfl
end PQR

/-! PLAIN LAW, a question asked: PS30 -/
set_option maxRecDepth 100000
def AskF (a : Nat) (M M' : CM) : Prop := (∀ o, o ≠ 0 → o ≠ 9 → o ≠ 10 → M'.1 o = M.1 o) ∧ (∀ k, k ≠ 2 → k ≠ 3 → k ≠ 4 → k ≠ 19 → M'.1 0 k = M.1 0 k) ∧ (∀ o, o ≠ 14 → M'.2.1 o = M.2.1 o) ∧ M'.2.2.1 = M.2.2.1 ∧ DS M.2.2.2.1 M'.2.2.2.1 ∧ ∀ y, y < a → M'.2.2.2.1 y = none
def AskT (σ σ' : MS) : Prop := (∀ k, k ≠ 91 → k ≠ 93 → σ'.2.2.1 k = σ.2.2.1 k) ∧ σ'.2.2.2 41 = σ.2.2.2 41 ∧ σ'.2.1 70 = σ.2.1 70 ∧ ∀ k, k = 60 ∨ k = 65 ∨ k = 68 ∨ k = 69 ∨ k = 102 → σ'.1 k = σ.1 k
section PQ3
variable {K : KE} {a n p w tp hr nk nf np : Nat} {M M' : CM} {σ σ' : MS} {pt : Nat → Nat} {vl vf vm : Option Nat}
theorem ask_iv (hn : n < 64) (X : HX a M σ nk nf np pt vl vf vm) (H : HTs K a M.2.2.2.1 σ vl vf vm) (N : KS a M 0 (σ.2.2.1 54) np pt) (E : RE K a M σ n nf np pt) (F : AskF a M M') (T : AskT σ σ') (htp : M.1 0 2 = nI tp) (ht6 : tp ≤ 1600) (e2 : M'.1 0 2 = 0) (t1 : σ'.1 1 = 0) (e3 : M'.1 0 3 = σ'.1 7) (e4 : M'.1 0 4 = σ'.1 8) (s0 : szM M ≤ szM M') (s1 : szM M' ≤ szM M + 400 * tp + 40) (s2 : slM M' ≤ slM M + 4000 * tp + 200) : IV K a (hp a M') σ' (n + 1) := by
  have b := X.bk
  obtain ⟨f1, f2, f3, f4, f5, f6⟩ := F
  obtain ⟨g1, g2, g3, g4⟩ := T
  have up : UpE σ σ' := ⟨fun k hk => g1 k (by omega) (by omega), g2⟩
  obtain ⟨h1, ⟨tp', z1, z2, z3, z4, z5, z6, z7⟩, h3, h4, h5, h6, h7, h8, h9, h10, h11⟩ := E
  have et : tp' = tp := by
    have := z2.symm.trans htp
    rw [nI_eqE (by omega) (by omega)] at this
    exact this
  subst et
  have c1 : cA = 400 := rfl
  have c2 : cB = 9000 := rfl
  have c3 : sA' = 4000 := rfl
  have c4 : sB' = 90000 := rfl
  have n1 : 64 - n = (64 - (n + 1)) + 1 := by omega
  rw [n1, c1, c2] at z5
  rw [n1, c3, c4] at z6
  have s0' : M.2.2.2.2.1 ≤ M'.2.2.2.2.1 := s0
  have s1' : M'.2.2.2.2.1 ≤ M.2.2.2.2.1 + 400 * tp' + 40 := s1
  have s2' : M'.2.2.2.2.2 ≤ M.2.2.2.2.2 + 4000 * tp' + 200 := s2
  refine ⟨M', nk, nf, np, pt, vl, vf, vm, rfl, (X.mo f5 (by rw [f4])).to (SameH.refl M') up.up, (H.mo f5).up up.up, N.nr b.2.2 (fun o q1 q2 => f1 o (by omega) (by omega) (by omega)) (by rw [f4]) (g1 54 (by omega) (by omega)), h1.to (fun o q => f1 o (by omega) (by omega) (by omega)) (fun o _ => by rw [f4]), ⟨0, by omega, e2, t1, by omega, ?_, ?_, f6⟩, h3.to (f1 8 (by omega) (by omega) (by omega)) (g1 0 (by omega) (by omega)), ⟨e3, e4⟩, h5.to (f1 15 (by omega) (by omega) (by omega)) (g1 9 (by omega) (by omega)), h6.to (f2 15 (by omega) (by omega) (by omega) (by omega)) (fun o ho => f1 o (by omega) (by omega) (by omega)) (g4 65 (by omega)) (g1 66 (by omega) (by omega)), h7.to (by rw [f3 0 (by omega)]) g3, h8.to (f2 21 (by omega) (by omega) (by omega) (by omega)) (f1 1351 (by omega) (by omega) (by omega)) (g4 102 (by omega)) (g1 101 (by omega) (by omega)), ?_, by rw [g4 60 (by omega)]; exact h10, h11.fr g1⟩
  · rw [c1, c2]
    omega
  · rw [c3, c4]
    omega
  · obtain ⟨u, nw, κ, q1, q2, q3, q4, q5, q6, q7, q8⟩ := h9
    refine ⟨u, nw, κ, q1, q2, by rw [f2 17 (by omega) (by omega) (by omega) (by omega)]; exact q3, by rw [g4 68 (by omega)]; exact q4, by rw [g4 69 (by omega)]; exact q5, fun j hj => by rw [f4]; exact q6 j hj, q7, fun j hj => ?_⟩
    have hk' := (q6 j (by omega)).1
    have hs := sbo_c (2 + κ j)
    exact (q8 j hj).to (by omega) b.2.2 (fun t' ht => f1 _ (by omega) (by omega) (by omega)) (by rw [f4]) (fun j _ => by rw [g1 67 (by omega) (by omega)])
theorem a134 (σ : MS) (y w : Int32) : fX6_ask_134 σ y w = if σ.1 5 = 0 then (if (2 : Int32) ≤ w then fX6_ask_174 (sI (sI σ 7 (σ.1 5)) 8 (σ.1 6)) y w 0 else fX6_ask_174 (sI (sI σ 7 (σ.1 5)) 8 (σ.1 6)) y w (-1)) else some (sI (sI σ 7 (σ.1 5)) 8 (σ.1 6), -1000000000000000) := by
  unfold fX6_ask_134
  have e1 : (sI σ 7 (σ.1 5)).1 6 = σ.1 6 := sI_n (by omega)
  have e2 : ∀ v, (sI (sI σ 7 (σ.1 5)) 8 v).1 5 = σ.1 5 := fun v => by rw [sI_n (by omega), sI_n (by omega)]
  rw [e1]
  simp only [e2]
theorem ps30 (C : CW K a) (Ct : CA K a 2 toldL) : PS30 K a (IV K a) := by
  intro h σ n x1 hn I hfr
  have I' := I.next
  obtain ⟨M, nk, nf, np, pt, vl, vf, vm, rfl, X, H, N, E⟩ := I
  have b := X.bk
  have E' := E
  obtain ⟨-, ⟨tp, z1, z2, z3, z4, z5, z6, z7⟩, h3, -⟩ := E'
  have tk := taken_c (K := K) (a := a) z2
  obtain ⟨B, hB, hT⟩ := h3.bb
  have hz : a + 1426 ≤ szM M := z4
  have fre : ∀ y e, M.2.2.2.1 y = some e → y < szM M := fun y e he => by
    by_cases q : inB a y
    · have := q.2.1
      omega
    · exact hfr y e (by rw [hp_D q]; exact he)
  have c1' : cA = 400 := rfl
  have c2' : cB = 9000 := rfl
  have c3' : sA' = 4000 := rfl
  have c4' : sB' = 90000 := rfl
  have n1 : 64 - n = (64 - (n + 1)) + 1 := by omega
  have z5' : szM M + 400 * tp + 40 ≤ K.2.2.1 := by
    rw [n1, c1', c2'] at z5
    show M.2.2.2.2.1 + 400 * tp + 40 ≤ _
    omega
  have z6' : slM M + 4000 * tp + 200 ≤ K.2.2.2 := by
    rw [n1, c3', c4'] at z6
    show M.2.2.2.2.2 + 4000 * tp + 200 ≤ _
    omega
  rcases X.isPers K x1 with ⟨p, hp', rfl, c1, c2⟩ | ⟨c1, c2⟩
  rotate_left
  · -- nobody
    obtain ⟨M', c3, c4⟩ : ∃ M', M' = mI M 0 2 0 ∧ IV K a (hp a M') (sI σ 1 0) (n + 1) := by
      refine ⟨_, rfl, _, nk, nf, np, pt, vl, vf, vm, rfl, X.to ⟨rfl, rfl⟩ (UpE.refl σ).up, H.up (UpE.refl σ).up, N.nr b.2.2 (fun o h1 h2 => mI_o (by omega)) rfl rfl, E.next.take b.2.2⟩
    refine ⟨hp a M', _, -1000000000000000, ?_, ?_, c4⟩
    · rw [c3]
      simp only [fX0_ask, x_rcv, bsm, tk, c1 (mI M 0 2 0) ⟨rfl, rfl⟩, if_true]
    · simp only [fX6_ask, c2, bsm, if_true]
  obtain ⟨M2, hM2⟩ : ∃ M2, M2 = mI (mI (mI M 0 2 0) 0 3 0) 0 4 (-1) := ⟨_, rfl⟩
  obtain ⟨s, hs⟩ : ∃ s, s = sI (sI (sI (sI (sI (sI (sI (sI (sI (sI (sI σ 3 (σ.1 1)) 1 (0 : Int32)) 2 (0 : Int32)) 4 (-1 : Int32)) 5 (0 : Int32)) 6 (-1 : Int32)) 53 (3 : Int32)) 92 (0 : Int32)) 94 (0 : Int32)) 95 (0 : Int32)) 96 (0 : Int32) := ⟨_, rfl⟩
  have cb : fX0_ask K (hp a M) a (nI p) = (fX2_question K (hp a M2) (a + 9) (nI tp)).bind fun x10 => tb x10 (fun q11 => fX0_ask_39 K a x10.1 (some q11)) fun v12 => (gR K x10.1 (some a) 0 9).bind fun v14 => (rcv K x10.1 v14 5).bind fun b15 => (fX5_profile K x10.1 b15 (nI p)).bind fun x16 => (pV x10.1 (some a) 0 19 (.int (0 : Int32))).bind fun h17 => fX0_ask_78 K a FU h17 (nI p) v12 x16 := by
    simp only [fX0_ask, x_rcv, bsm, tk, c1 (mI M 0 2 0) ⟨rfl, rfl⟩, if_neg n01, x_p3, x_p4, x_g5, r_rcv, ← hM2]
  have tb0 : fX6_ask σ (nI p) = ((fX6_qKind s).bind fun x3 => if (x3.1.1 5) = 0 then if (3 : Int32) ≤ x3.2 then fX6_ask_99 x3.1 (nI p) x3.2 else (fX6_qTest x3.1).bind fun x6 => fX6_ask_110 x6 (nI p) x3.2 else fX6_ask_99 x3.1 (nI p) x3.2) := by
    simp only [fX6_ask, c2, bsm, if_neg n01, ← hs]
  have s_1 : s.1 1 = 0 := by rw [hs]; rfl
  have s_6 : s.1 6 = -1 := by rw [hs]; rfl
  have s_k : ∀ k, k = 60 ∨ k = 65 ∨ k = 68 ∨ k = 69 ∨ k = 102 → s.1 k = σ.1 k := fun k hk => by
    rw [hs, sI_n (by omega), sI_n (by omega), sI_n (by omega), sI_n (by omega), sI_n (by omega), sI_n (by omega), sI_n (by omega), sI_n (by omega), sI_n (by omega), sI_n (by omega), sI_n (by omega)]
  have s_2 : s.2 = σ.2 := by rw [hs]; rfl
  have T0 : TQ s B tp 3 0 s 0 [] [] 0 := by
    refine ⟨⟨⟨hT.to (by rw [s_2]), z1, Nat.zero_le _, ?_, ?_⟩, Or.inl ⟨?_, ?_⟩, ?_⟩, ⟨?_, ?_, ?_, ?_, ?_, ?_⟩, trivial, fun i hi => absurd hi (by omega), fun i hi => absurd hi (by simp), FQ.refl s, ⟨by omega, rfl⟩, Or.inl rfl, by simp, fun o ho => by cases ho⟩
    · rw [hs, ← z3]; rfl
    · rw [hs]; rfl
    · rw [hs]; rfl
    · exact fun q => by have := q.1; omega
    · exact E.2.2.2.2.2.2.2.2.2.2.fr (fun k _ _ => by rw [s_2])
    · rw [hs]; rfl
    · rw [hs]; rfl
    · rw [hs]; rfl
    · rw [hs]; rfl
    · rw [hs]; rfl
    · rw [hs]; rfl
  have sz2 : szM M2 = szM M := by rw [hM2]; rfl
  have sl2 : slM M2 = slM M := by rw [hM2]; rfl
  have m2r : M2.2 = M.2 := by rw [hM2]; rfl
  have m21 : ∀ o, o ≠ 0 → M2.1 o = M.1 o := fun o ho => by rw [hM2, mI_o ho, mI_o ho, mI_o ho]
  have m20 : ∀ k, k ≠ 2 → k ≠ 3 → k ≠ 4 → M2.1 0 k = M.1 0 k := fun k k2 k3 k4 => by rw [hM2, mI_n (Or.inr k4), mI_n (Or.inr k3), mI_n (Or.inr k2)]
  have m22 : M2.1 0 2 = 0 := by rw [hM2, mI_n (by omega), mI_n (by omega)]; exact mI_s
  have m23 : M2.1 0 3 = 0 := by rw [hM2, mI_n (by omega)]; exact mI_s
  have m24 : M2.1 0 4 = -1 := by rw [hM2]; exact mI_s
  have qc := quC (M := M2) C Ct (hB.to (m21 8 (by omega))) z1 (by omega) (by rw [m2r]; exact z7) (by omega) (by omega)
  have qt := quT T0 (nI p)
  rw [cb, tb0]
  cases hq : quP B tp with
  | inl e =>
    rw [hq] at qc qt
    obtain ⟨M3, g1, g2, ⟨g3, g4⟩, g5, g6⟩ := qc
    obtain ⟨σ', w', j1, ⟨j2, j3, j3'⟩, j4, j5⟩ := qt
    have n5 : ¬ σ'.1 5 = 0 := by rw [j2]; exact nz_k j3 j3'
    obtain ⟨x1, x2, x3, x4, x5, x6⟩ := g2
    have sM : szM M2 ≤ szM M3 := x5
    refine ⟨hp a (mI (mI M3 0 3 (nI e.1)) 0 4 (nI e.2)), sI (sI σ' 7 (σ'.1 5)) 8 (σ'.1 6), -1000000000000000, ?_, ?_, ?_⟩
    · have u : ∀ v, (mI M3 0 3 v).1 10 7 = nI e.2 := fun v => by rw [mI_o (by omega)]; exact g4
      rw [g1, bsm]
      simp only [tb, fX0_ask_39, f_g6, g3, bsm, x_p3, f_g7, u, x_p4]
    · rw [j1, a134, if_neg n5]
    · refine ask_iv (tp := tp) hn X H N E ⟨fun o q0 q9 q10 => ?_, fun k k2 k3 k4 k19 => ?_, fun o _ => ?_, ?_, fun y e he => ?_, fun y hy => ?_⟩ ⟨fun k k1 k2 => ?_, ?_, ?_, fun k hk => ?_⟩ z2 z1 ?_ ?_ ?_ ?_ ?_ ?_ ?_
      · rw [mI_o q0, mI_o q0, x1 o q9 q10, m21 o q0]
      · rw [mI_n (Or.inr k4), mI_n (Or.inr k3), x1 0 (by omega) (by omega), m20 k k2 k3 k4]
      · show M3.2.1 o = _
        rw [x2, m2r]
      · show M3.2.2.1 = _
        rw [x3, m2r]
      · show M3.2.2.2.1 y = _
        have := fre y e he
        rw [x4 y (by omega), m2r]
        exact he
      · show M3.2.2.2.1 y = _
        rw [x4 y (by omega), m2r]
        exact z7 y hy
      · show σ'.2.2.1 k = _
        rw [j5.2.2.1 k k1 k2, s_2]
      · show σ'.2.2.2 41 = _
        rw [j5.2.1, s_2]
      · show σ'.2.1 70 = _
        rw [j5.1, s_2]
      · rw [sI_n (by omega), sI_n (by omega), j5.2.2.2 k (by omega) (by omega) (by omega) (by omega) (by omega) (by omega) (by omega) (by omega) (by omega), s_k k hk]
      · rw [mI_n (by omega), mI_n (by omega), x1 0 (by omega) (by omega)]; exact m22
      · rw [sI_n (by omega), sI_n (by omega), j5.2.2.2 1 (by omega) (by omega) (by omega) (by omega) (by omega) (by omega) (by omega) (by omega) (by omega)]; exact s_1
      · rw [mI_n (by omega), mI_s, sI_n (by omega), sI_s, j2]
      · rw [mI_s, sI_s, j4]
      · show szM M ≤ szM M3
        omega
      · show szM M3 ≤ _
        omega
      · show slM M3 ≤ _
        omega
  | inr e =>
    obtain ⟨w, cs⟩ := e
    rw [hq] at qc qt
    obtain ⟨M3, r, qa, t, u, g1, g2, ⟨g3, g4, g5, g5'⟩, g6, g7, g8, g9, g10⟩ := qc
    obtain ⟨σ', p', d', j1, j2⟩ := qt
    have j5 := j2.fq
    have h5 : σ'.1 5 = 0 := j2.2.1.1
    have h6 : σ'.1 6 = -1 := by rw [j2.2.2.2.2.2.2.1.2]; exact s_6
    have h92 : σ'.1 92 = nI cs.length := j2.2.1.2.2.2.2.2
    have h91 := j2.2.2.2.2.1
    have hbd := j2.bd
    simp only [List.length_nil] at hbd
    obtain ⟨x1, x2, x3, x4, x5, x6⟩ := g2
    have sM : szM M2 ≤ szM M3 := x5
    obtain ⟨tv, htv⟩ : ∃ tv : Int64, tv = if 2 ≤ w then 0 else -1 := ⟨_, rfl⟩
    obtain ⟨σ8, hσ8⟩ : ∃ σ8, σ8 = sI (sI (sL (sI (sI σ' 7 (σ'.1 5)) 8 (σ'.1 6)) 99 tv) 100 (1 : Int32)) 56 (nI p) := ⟨_, rfl⟩
    have t8r : σ8.2.2 = σ'.2.2 := by rw [hσ8]; rfl
    have ar : ∀ k, k ≠ 91 → k ≠ 93 → σ'.2.2.1 k = σ.2.2.1 k := fun k k1 k2 => by rw [j5.2.2.1 k k1 k2, s_2]
    obtain ⟨hr, π, kp, ks1, ks2, ks3, ks4⟩ := N
    have sb := sbo_c 0
    have S3 : SR M3 0 (σ8.2.2.1 54) np pt hr := ks2.m (fun t _ => by rw [x1 _ (by omega) (by omega), m21 _ (by omega)]) (fun j _ => by rw [t8r, ar 54 (by omega) (by omega)]) b.2.2
    obtain ⟨-, -, -, -, wq, -, w1, w2, w3⟩ := S3.prof (a := a) K (by omega) b.2.2 hp'
    obtain ⟨σ9, hσ9⟩ : ∃ σ9, σ9 = sI (sI σ8 57 (nI wq)) 53 (3 : Int32) := ⟨_, rfl⟩
    have t9r : σ9.2.2 = σ'.2.2 := by rw [hσ9]; exact t8r
    have tw : fX6_ask_134 σ' (nI p) (nI w) = fX6_ask_203 FU σ9 (nI w) 0 := by
      have k2 : ((2 : Int32) ≤ nI w) = (2 ≤ w) := nI_leE (a := 2) (by omega) (by omega)
      have s74 : fX6_ask_174 (sI (sI σ' 7 (σ'.1 5)) 8 (σ'.1 6)) (nI p) (nI w) tv = fX6_ask_203 FU σ9 (nI w) 0 := by
        unfold fX6_ask_174
        rw [← hσ8, w3, bsm, ← hσ9]
      rw [a134, if_pos h5]
      simp only [k2]
      rw [← s74, htv]
      by_cases q : 2 ≤ w
      · rw [if_pos q, if_pos q]
      · rw [if_neg q, if_neg q]
    obtain ⟨M4, hM4⟩ : ∃ M4, M4 = mI M3 0 19 0 := ⟨_, rfl⟩
    have m4r : M4.2 = M3.2 := by rw [hM4]; rfl
    have m41 : ∀ o, o ≠ 0 → M4.1 o = M3.1 o := fun o ho => by rw [hM4, mI_o ho]
    have m40 : ∀ k, k ≠ 19 → M4.1 0 k = M3.1 0 k := fun k hk => by rw [hM4, mI_n (Or.inr hk)]
    have cc : ((fX2_question K (hp a M2) (a + 9) (nI tp)).bind fun x10 => tb x10 (fun q11 => fX0_ask_39 K a x10.1 (some q11)) fun v12 => (gR K x10.1 (some a) 0 9).bind fun v14 => (rcv K x10.1 v14 5).bind fun b15 => (fX5_profile K x10.1 b15 (nI p)).bind fun x16 => (pV x10.1 (some a) 0 19 (.int (0 : Int32))).bind fun h17 => fX0_ask_78 K a FU h17 (nI p) v12 x16) = fX0_ask_78 K a FU (hp a M4) (nI p) (some qa) (nI wq) := by
      rw [g1, bsm]
      simp only [tb, x_g9, bsm, s_rcv (show (0 : Nat) < 22 by omega), w2, x_p19, ← hM4]
    have dsq : ∀ M' : CM, QMf qa M4 M' → DS M.2.2.2.1 M'.2.2.2.1 ∧ M'.2.2.1 = M.2.2.1 ∧ ∀ y, y < a → M'.2.2.2.1 y = none := fun M' q => by
      have e1 : ∀ y, y < szM M → M'.2.2.2.1 y = M.2.2.2.1 y := fun y hy => by rw [q.2.2.2.2.1 y (by omega), m4r, x4 y (by omega), m2r]
      refine ⟨fun y e he => by rw [e1 y (fre y e he)]; exact he, by rw [q.2.2.2.1, m4r, x3, m2r], fun y hy => by rw [e1 y (by omega)]; exact z7 y hy⟩
    have upq : ∀ s' : MS, QSf σ9 s' → UpE σ s' := fun s' q => ⟨fun k hk => by rw [q.1, t9r, ar k (by omega) (by omega)], by rw [q.2.2.2 41 (by omega), t9r, j5.2.1, s_2]⟩
    obtain ⟨M5, σ5, v, l1, l2, l3, l4⟩ := ask_loop (K := K) (M := M4) (σ := σ9) (hr := hr) (p := p) (wq := wq) (w := w) (qa := qa) (t := t) (u := u) (r := r) (cs := cs) (ff := -1) (hs := 0) (A := tv) (nw := 1) (hi := szM M3)
      (fun M' s' q1 q2 => (X.mo (dsq M' q1).1 (by rw [(dsq M' q1).2.1])).to (SameH.refl M') (upq s' q2).up)
      (S3.m (fun t _ => m41 _ (by omega)) (fun j _ => by rw [t9r, t8r]) b.2.2) hp' w1 (by rw [hM4]; exact mI_s) (by rw [hσ9, sI_n (by omega), sI_n (by omega), hσ8]; exact sI_s) (by rw [hσ9, sI_n (by omega)]; exact sI_s) (by rw [hσ9, sI_n (by omega), sI_n (by omega), hσ8, sI_n (by omega), sI_n (by omega)]; exact h92) (by rw [t9r]; exact h91) (by omega) g8 g3 g4 (by rw [m4r]; exact g6) (by
        rw [m4r]
        rcases g7 with ⟨y1, y2, y3⟩ | ⟨y1, y2, y3⟩
        · exact Or.inl ⟨y1, y2, y3.2.2 64 (by omega)⟩
        · exact Or.inr ⟨y1, y2, y3.2.2 64 (by omega)⟩) (by
        rw [htv]
        by_cases q2 : w < 2
        · rw [if_neg (by omega)]
          exact Or.inl ⟨q2, rfl, Or.inl ⟨rfl, rfl⟩⟩
        · rw [if_pos (by omega)]
          by_cases q3 : w = 2
          · exact Or.inr (Or.inl ⟨q3, Or.inl ⟨rfl, rfl, rfl⟩⟩)
          · by_cases q4 : w = 3
            · exact Or.inr (Or.inr (Or.inl ⟨q4, Or.inl ⟨rfl, rfl⟩⟩))
            · exact Or.inr (Or.inr (Or.inr ⟨by omega, Or.inl ⟨rfl, rfl, rfl⟩⟩))) (by rw [hσ9, hσ8]; exact sL_s) (by rw [hσ9, sI_n (by omega), sI_n (by omega), hσ8, sI_n (by omega), sI_s]; rfl)
    obtain ⟨d1, d2, d3⟩ := dsq M5 l3
    have s5 : M5.2.2.2.2 = M3.2.2.2.2 := by rw [l3.2.2.2.2.2, m4r]
    have sz5 : szM M5 = szM M3 := by
      show M5.2.2.2.2.1 = M3.2.2.2.2.1
      rw [s5]
    have sl5 : slM M5 = slM M3 := by
      show M5.2.2.2.2.2 = M3.2.2.2.2.2
      rw [s5]
    have i5 : ∀ k, k ≠ 98 → k ≠ 100 → k ≠ 53 → k ≠ 57 → k ≠ 56 → σ5.1 k = (sI (sI σ' 7 (σ'.1 5)) 8 (σ'.1 6)).1 k := fun k k1 k2 k3 k4 k5 => by
      rw [l4.2.1 k k1 k2, hσ9, sI_n k3, sI_n k4, hσ8, sI_n k5, sI_n k2]
      rfl
    refine ⟨hp a M5, σ5, v, cc.trans l1, by rw [j1, tw]; exact l2, ?_⟩
    refine ask_iv (tp := tp) hn X H ⟨hr, π, kp, ks1, ks2, ks3, ks4⟩ E ⟨fun o q0 q9 q10 => ?_, fun k k2 k3 k4 k19 => ?_, fun o o14 => ?_, d2, d1, d3⟩ ⟨fun k k1 k2 => ?_, ?_, ?_, fun k hk => ?_⟩ z2 z1 ?_ ?_ ?_ ?_ (by omega) (by omega) (by omega)
    · rw [l3.1 o q0, m41 o q0, x1 o q9 q10, m21 o q0]
    · rw [l3.2.1 k k19, m40 k k19, x1 0 (by omega) (by omega), m20 k k2 k3 k4]
    · rw [l3.2.2.1 o o14, m4r, x2, m2r]
    · rw [l4.1, t9r, ar k k1 k2]
    · exact (upq σ5 l4).2
    · rw [l4.2.2.1 70 (by omega), hσ9, hσ8]
      show (sL (sI (sI σ' 7 (σ'.1 5)) 8 (σ'.1 6)) 99 tv).2.1 70 = _
      rw [sL_n (by omega)]
      show σ'.2.1 70 = _
      rw [j5.1, s_2]
    · rw [i5 k (by omega) (by omega) (by omega) (by omega) (by omega), sI_n (by omega), sI_n (by omega), j5.2.2.2 k (by omega) (by omega) (by omega) (by omega) (by omega) (by omega) (by omega) (by omega) (by omega), s_k k hk]
    · rw [l3.2.1 2 (by omega), m40 2 (by omega), x1 0 (by omega) (by omega)]; exact m22
    · rw [i5 1 (by omega) (by omega) (by omega) (by omega) (by omega), sI_n (by omega), sI_n (by omega), j5.2.2.2 1 (by omega) (by omega) (by omega) (by omega) (by omega) (by omega) (by omega) (by omega) (by omega)]; exact s_1
    · rw [l3.2.1 3 (by omega), m40 3 (by omega), x1 0 (by omega) (by omega), m23, i5 7 (by omega) (by omega) (by omega) (by omega) (by omega), sI_n (by omega), sI_s, h5]
    · rw [l3.2.1 4 (by omega), m40 4 (by omega), x1 0 (by omega) (by omega), m24, i5 8 (by omega) (by omega) (by omega) (by omega) (by omega), sI_s, h6]
end PQ3

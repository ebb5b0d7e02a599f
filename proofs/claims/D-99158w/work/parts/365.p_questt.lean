/-! PARSER, questions at the twin -/
set_option maxRecDepth 100000
section PQT
variable {a i n k p q L m b d w : Nat} {B : Nat → Nat} {cs c1 S O : List Nat} {σ σ' σ0 : MS} {x : Int32}
theorem takes_p (T : TQ σ0 B L m b σ p S O d) (hw : isW k) : ∃ σ', fX6_takes σ k = some (σ', if HW B L (sk B L p) (wdL k) then 1 else 0) ∧ TQ σ0 B L m b σ' (if HW B L (sk B L p) (wdL k) then we B L (sk B L p) else sk B L p) S O d := by
  have t := T
  obtain ⟨⟨t1, t2, t3⟩, ⟨t4, -⟩, -⟩ := t
  have a := takes_o t1 t2 t3 hw t4
  by_cases h : HW B L (sk B L p) (wdL k)
  · rw [if_pos h] at a
    rw [if_pos h, if_pos h]
    have g := @sk_ge p L B
    have g2 := @we_ge (sk B L p) L B
    exact ⟨_, a, T.wd (by omega) (we_le (sk_le t1.2.2.1)) (we_PT h.1.1)⟩
  · rw [if_neg h] at a
    rw [if_neg h, if_neg h]
    exact ⟨_, a, T.blk⟩
theorem fd6 (q e : Nat) : fd B q e toldL = if WQ B q e (wdL 71) then some 0 else if WQ B q e (wdL 72) then some 1 else if WQ B q e (wdL 73) then some 2 else if WQ B q e (wdL 74) then some 3 else if WQ B q e (wdL 75) then some 4 else if WQ B q e (wdL 76) then some 5 else none := rfl
/-- which question -/
theorem kind_q (T : TQ σ0 B L m b σ p S O d) : match (if LEa B L (sk B L p) ∧ ¬ PT B (sk B L p) then fd B (sk B L p) (we B L (sk B L p)) toldL else none) with
    | some w => ∃ σ', fX6_qKind σ = some (σ', nI w) ∧ TQ σ0 B L m b σ' (we B L (sk B L p)) S O d
    | none => ∃ σ' y, fX6_qKind σ = some (σ', y) ∧ σ'.1 5 = nI 1 ∧ σ'.1 6 = nI (sk B L p) ∧ FQ σ0 σ' := by
  obtain ⟨s1, a1, T1⟩ := takes_p (k := 71) T (by unfold isW; omega)
  have ss := @sk_sk p L B
  generalize sk B L p = q at *
  by_cases z : HW B L q (wdL 71)
  · rw [if_pos z] at a1 T1
    rw [if_pos z.1, fd6, if_pos z.2]
    refine ⟨s1, ?_, T1⟩
    simp only [fX6_qKind, a1, bsm, if_neg n01, fX6_qKind_76, if_neg (show ¬ (0 : Int32) = 5 by decide)]
    rfl
  rw [if_neg z] at a1 T1
  obtain ⟨s2, a2, T2⟩ := takes_q (k := 72) T1 ss (by unfold isW; omega)
  by_cases z2 : HW B L q (wdL 72)
  · rw [if_pos z2] at a2 T2
    rw [if_pos z2.1, fd6, if_neg (fun y => z ⟨z2.1, y⟩), if_pos z2.2]
    refine ⟨s2, ?_, T2⟩
    simp only [fX6_qKind, a1, a2, bsm, if_true, if_neg n01, fX6_qKind_76, if_neg (show ¬ (1 : Int32) = 5 by decide)]
    rfl
  rw [if_neg z2] at a2 T2
  obtain ⟨s3, a3, T3⟩ := takes_q (k := 73) T2 ss (by unfold isW; omega)
  by_cases z3 : HW B L q (wdL 73)
  · rw [if_pos z3] at a3 T3
    rw [if_pos z3.1, fd6, if_neg (fun y => z ⟨z3.1, y⟩), if_neg (fun y => z2 ⟨z3.1, y⟩), if_pos z3.2]
    refine ⟨s3, ?_, T3⟩
    simp only [fX6_qKind, a1, a2, a3, bsm, if_true, if_neg n01, fX6_qKind_76, if_neg (show ¬ (2 : Int32) = 5 by decide)]
    rfl
  rw [if_neg z3] at a3 T3
  obtain ⟨s4, a4, T4⟩ := takes_q (k := 74) T3 ss (by unfold isW; omega)
  by_cases z4 : HW B L q (wdL 74)
  · rw [if_pos z4] at a4 T4
    rw [if_pos z4.1, fd6, if_neg (fun y => z ⟨z4.1, y⟩), if_neg (fun y => z2 ⟨z4.1, y⟩), if_neg (fun y => z3 ⟨z4.1, y⟩), if_pos z4.2]
    refine ⟨s4, ?_, T4⟩
    simp only [fX6_qKind, a1, a2, a3, a4, bsm, if_true, if_neg n01, fX6_qKind_76, if_neg (show ¬ (3 : Int32) = 5 by decide)]
    rfl
  rw [if_neg z4] at a4 T4
  obtain ⟨s5, a5, T5⟩ := takes_q (k := 75) T4 ss (by unfold isW; omega)
  by_cases z5 : HW B L q (wdL 75)
  · rw [if_pos z5] at a5 T5
    rw [if_pos z5.1, fd6, if_neg (fun y => z ⟨z5.1, y⟩), if_neg (fun y => z2 ⟨z5.1, y⟩), if_neg (fun y => z3 ⟨z5.1, y⟩), if_neg (fun y => z4 ⟨z5.1, y⟩), if_pos z5.2]
    refine ⟨s5, ?_, T5⟩
    simp only [fX6_qKind, a1, a2, a3, a4, a5, bsm, if_true, if_neg n01, fX6_qKind_76, if_neg (show ¬ (4 : Int32) = 5 by decide)]
    rfl
  rw [if_neg z5] at a5 T5
  have base : fX6_qKind σ = (fX6_asks s5 76).bind fun x2 => some (x2, (5 : Int32)) := by
    simp only [fX6_qKind, a1, a2, a3, a4, a5, bsm, if_true, fX6_qKind_76]
  by_cases z6 : HW B L q (wdL 76)
  · rw [if_pos z6.1, fd6, if_neg (fun y => z ⟨z6.1, y⟩), if_neg (fun y => z2 ⟨z6.1, y⟩), if_neg (fun y => z3 ⟨z6.1, y⟩), if_neg (fun y => z4 ⟨z6.1, y⟩), if_neg (fun y => z5 ⟨z6.1, y⟩), if_pos z6.2]
    obtain ⟨s6, a6, T6⟩ := asks_q (k := 76) T5 ss (by unfold isW; omega) z6
    exact ⟨s6, by rw [base, a6, bsm]; rfl, T6⟩
  have nn : (if LEa B L q ∧ ¬ PT B q then fd B q (we B L q) toldL else none) = none := by
    by_cases g : LEa B L q ∧ ¬ PT B q
    · rw [if_pos g, fd6, if_neg (fun y => z ⟨g, y⟩), if_neg (fun y => z2 ⟨g, y⟩), if_neg (fun y => z3 ⟨g, y⟩), if_neg (fun y => z4 ⟨g, y⟩), if_neg (fun y => z5 ⟨g, y⟩), if_neg (fun y => z6 ⟨g, y⟩)]
    · rw [if_neg g]
  rw [nn]
  have t := T5
  obtain ⟨⟨t1, t2, t3⟩, ⟨t4, -⟩, -⟩ := t
  have a6 := asks_o (kw := 76) t1 t2 t3 (by unfold isW; omega) t4
  rw [ss, if_neg z6, sI_id t1.2.2.2.2] at a6
  exact ⟨_, _, by rw [base, a6, bsm], by rw [sI_n (by omega)]; exact sI_s, sI_s, (T5.fq.si (by omega)).si (by omega)⟩
/-- behind the sum or test, no fault so far -/
theorem ask110 (T : TQ σ0 B L m 0 σ p [] cs d) (ss : sk B L p = p) (x y : Int32) : fX6_ask_110 σ x y = if p < L then fX6_ask_134 (sI (sI σ 5 1) 6 (nI p)) x y else fX6_ask_134 σ x y := by
  have lk := T.1.1.look
  have e2 := T.1.1.2.2.2.2
  have hL := T.1.1.2.1
  rw [ss, sI_id e2] at lk
  have h5 := T.2.1.1
  by_cases z : p < L
  · rw [if_pos z]
    have ch : ¬ chI B L p = (-1 : Int32) := by
      rw [chI, if_pos z, nI_eqm (by have := T.1.1.lt p (by omega); omega)]
      exact id
    simp only [fX6_ask_110, h5, if_true, lk, bsm, if_neg ch, fail_o h5, e2]
  · rw [if_neg z]
    have ch : chI B L p = (-1 : Int32) := by rw [chI, if_neg z]
    simp only [fX6_ask_110, h5, if_true, lk, bsm, if_pos ch]
theorem ask110_5 (h : ¬ σ.1 5 = 0) (x y : Int32) : fX6_ask_110 σ x y = fX6_ask_134 σ x y := by
  simp only [fX6_ask_110, if_neg h]
/-- a question at the twin -/
theorem quT (T : TQ σ0 B L 3 0 σ 0 [] [] 0) (y : Int32) : match quP B L with
    | .inl e => ∃ σ' w', ((fX6_qKind σ).bind fun x3 => if (x3.1.1 5) = 0 then if (3 : Int32) ≤ x3.2 then fX6_ask_99 x3.1 y x3.2 else (fX6_qTest x3.1).bind fun x6 => fX6_ask_110 x6 y x3.2 else fX6_ask_99 x3.1 y x3.2) = fX6_ask_134 σ' y w' ∧ (σ'.1 5 = nI e.1 ∧ e.1 ≠ 0 ∧ e.1 < 100) ∧ σ'.1 6 = nI e.2 ∧ FQ σ0 σ'
    | .inr (w, cs) => ∃ σ' p' d', ((fX6_qKind σ).bind fun x3 => if (x3.1.1 5) = 0 then if (3 : Int32) ≤ x3.2 then fX6_ask_99 x3.1 y x3.2 else (fX6_qTest x3.1).bind fun x6 => fX6_ask_110 x6 y x3.2 else fX6_ask_99 x3.1 y x3.2) = fX6_ask_134 σ' y (nI w) ∧ TQ σ0 B L 3 0 σ' p' [] cs d' := by
  have kq := kind_q T
  have hL := T.1.1.2.1
  have ql := @sk_le 0 L B (Nat.zero_le _)
  unfold quP
  generalize sk B L 0 = q at *
  have bad : ∀ (σ' : MS) (y' : Int32) (k x : Nat), fX6_qKind σ = some (σ', y') → σ'.1 5 = nI k → k ≠ 0 → k < 100 → ((fX6_qKind σ).bind fun x3 => if (x3.1.1 5) = 0 then if (3 : Int32) ≤ x3.2 then fX6_ask_99 x3.1 y x3.2 else (fX6_qTest x3.1).bind fun x6 => fX6_ask_110 x6 y x3.2 else fX6_ask_99 x3.1 y x3.2) = fX6_ask_134 σ' y y' := fun σ' y' k x e h1 h2 h3 => by
    have n5 : ¬ σ'.1 5 = 0 := by rw [h1]; exact nz_k h2 h3
    simp only [e, bsm, if_neg n5, fX6_ask_99, ask110_5 n5]
  by_cases g : LEa B L q ∧ ¬ PT B q
  rotate_left
  · rw [if_neg g] at kq ⊢
    obtain ⟨σ', y', k1, k2, k3, k4⟩ := kq
    exact ⟨σ', y', bad σ' y' 1 0 k1 k2 (by omega) (by omega), ⟨k2, by omega, by omega⟩, k3, k4⟩
  rw [if_pos g] at kq ⊢
  cases hf : fd B q (we B L q) toldL with
  | none =>
    rw [hf] at kq
    obtain ⟨σ', y', k1, k2, k3, k4⟩ := kq
    exact ⟨σ', y', bad σ' y' 1 0 k1 k2 (by omega) (by omega), ⟨k2, by omega, by omega⟩, k3, k4⟩
  | some w =>
    rw [hf] at kq
    obtain ⟨σ1, k1, T1⟩ := kq
    have hw : w < 6 := (fd_s hf).1
    have wl := @we_le q L B ql
    have k3 : ((3 : Int32) ≤ nI w) = (3 ≤ w) := nI_leE (a := 3) (by omega) (by omega)
    have h51 := T1.2.1.1
    have hok : 0 ≠ 6 → ∀ t p, p ≤ L → okP B L 3 p (psD B L 3 64 t (0 + 1) p) := fun h t p hp => psD_ok 64 t 1 p (by omega) (by omega) hp
    have base : ((fX6_qKind σ).bind fun x3 => if (x3.1.1 5) = 0 then if (3 : Int32) ≤ x3.2 then fX6_ask_99 x3.1 y x3.2 else (fX6_qTest x3.1).bind fun x6 => fX6_ask_110 x6 y x3.2 else fX6_ask_99 x3.1 y x3.2) = if 3 ≤ w then (fX6_qSums σ1).bind fun x2 => fX6_ask_110 x2 y (nI w) else (fX6_qTest σ1).bind fun x6 => fX6_ask_110 x6 y (nI w) := by
      simp only [k1, bsm, h51, if_true, k3, fX6_ask_99]
    rw [base]
    show (match (pb (if w < 3 then testP B L 3 (psD B L 3 64) 0 (we B L q) else sumP B L 3 (psD B L 3 64) 0 (we B L q)) fun p1 cs => if sk B L p1 < L then (.inl (1, sk B L p1) : PRes) else .inr (w, cs)) with | .inl e => _ | .inr (w, cs) => _)
    by_cases z : 3 ≤ w
    · rw [if_pos z, if_neg (show ¬ w < 3 by omega)]
      have J := sumT (by omega) T1 (fun o ho => by cases ho) (by simp)
      have ok := sum_ok (B := B) (m := 3) (rs := psD B L 3 64) (d := 0) wl hok
      rw [sumM_top (n := 64) (by omega) wl (by omega)] at J
      cases hpr : sumP B L 3 (psD B L 3 64) 0 (we B L q) with
      | inl e =>
        rw [hpr] at J ok
        obtain ⟨σ', j1, j2, j3, j4, j5, j6⟩ := J
        have o1 := ok.1
        have n5 : ¬ σ'.1 5 = 0 := by rw [j2]; exact nz_k (by omega) (by omega)
        exact ⟨σ', nI w, by rw [j1, bsm, ask110_5 n5], ⟨j2, by omega, by omega⟩, j3, j5⟩
      | inr e =>
        obtain ⟨p1, cs⟩ := e
        rw [hpr] at J
        obtain ⟨σ', j1, T2, j3, j4, j5⟩ := J
        have a1 := ask110 T2 sk_sk y (nI w)
        show (match (if sk B L p1 < L then (.inl (1, sk B L p1) : PRes) else .inr (w, cs)) with | .inl e => _ | .inr (w, cs) => _)
        by_cases y1 : sk B L p1 < L
        · rw [if_pos y1] at a1 ⊢
          exact ⟨_, nI w, by rw [j1, bsm, a1], ⟨by rw [sI_n (by omega)]; exact sI_s, by omega, by omega⟩, sI_s, (T2.fq.si (by omega)).si (by omega)⟩
        · rw [if_neg y1] at a1 ⊢
          exact ⟨σ', _, _, by rw [j1, bsm, a1], T2⟩
    · rw [if_neg z, if_pos (show w < 3 by omega)]
      have J := qTest_o (by omega) T1 (by simp)
      have MT := testM_top (B := B) (L := L) (m := 3) (O := []) wl
      have ok := test_ok (B := B) (m := 3) (rs := psD B L 3 64) (d := 0) wl hok
      cases hpr : testP B L 3 (psD B L 3 64) 0 (we B L q) with
      | inl e =>
        rw [hpr] at MT ok
        have o1 := ok.1
        rcases MT with MT | ⟨m1, m2, O', m3⟩
        · rw [MT] at J
          obtain ⟨σ', j1, j2, j3, j5⟩ := J (by omega)
          have n5 : ¬ σ'.1 5 = 0 := by rw [j2]; exact nz_k (by omega) (by omega)
          exact ⟨σ', nI w, by rw [j1, bsm, ask110_5 n5], ⟨j2, by omega, by omega⟩, j3, j5⟩
        · rw [m3] at J
          obtain ⟨σ', d', j1, T2⟩ := J
          have sse : sk B L e.2 = e.2 := sk_n (fun y => by have h1 := y.2; have h2 := m2.2; omega)
          have a1 := ask110 T2 sse y (nI w)
          rw [if_pos m2.1] at a1
          refine ⟨_, nI w, by rw [j1, bsm, a1], ⟨?_, by omega, by omega⟩, sI_s, (T2.fq.si (by omega)).si (by omega)⟩
          rw [sI_n (by omega), m1]
          exact sI_s
      | inr e =>
        obtain ⟨p1, cs⟩ := e
        rw [hpr] at MT
        have MT' : yA B L 3 (we B L q) [] [] 0 = .inr (sk B L p1, [] ++ cs) := MT
        rw [MT'] at J
        obtain ⟨σ', d', j1, T2⟩ := J
        have a1 := ask110 T2 sk_sk y (nI w)
        show (match (if sk B L p1 < L then (.inl (1, sk B L p1) : PRes) else .inr (w, cs)) with | .inl e => _ | .inr (w, cs) => _)
        by_cases y1 : sk B L p1 < L
        · rw [if_pos y1] at a1 ⊢
          exact ⟨_, nI w, by rw [j1, bsm, a1], ⟨by rw [sI_n (by omega)]; exact sI_s, by omega, by omega⟩, sI_s, (T2.fq.si (by omega)).si (by omega)⟩
        · rw [if_neg y1] at a1 ⊢
          exact ⟨σ', _, _, by rw [j1, bsm, a1], T2⟩
end PQT

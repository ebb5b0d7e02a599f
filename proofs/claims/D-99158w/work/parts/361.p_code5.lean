/-! PARSER, the twin's sums are the machine's (3) -/
set_option maxRecDepth 100000
section PCU
variable {B : Nat → Nat} {L m b p q p1 d d0 k c o n f g j v fu N : Nat} {S S' O O' cs : List Nat} {σ0 σ σ' : MS} {x a1 : Int32} {e : Nat × Nat}
/-- the top becomes another -/
theorem TQ.rep (T : TQ σ0 B L m b σ p (o :: S) O d) (ho : c < 100) : ∃ σ', tI σ 93 (nI (b + S.length)) (nI c) = some σ' ∧ TQ σ0 B L m b σ' p (c :: S) O d := by
  have hb := T.bd
  obtain ⟨⟨t1, t2, t3⟩, ⟨t4, t5, t6, t7, t8, t9⟩, ⟨t10, t10'⟩, t11, t12, t13, t14, t15, t16, t17⟩ := T
  have hl : (o :: S).length = S.length + 1 := rfl
  rw [hl] at hb
  refine ⟨sA σ 93 (b + S.length) (nI c), tp93 (by omega), ⟨t1.to (by rw [sA_n (by omega)]) rfl rfl, t2.to rfl, t3.fr (fun k h1 h2 => by rw [sA_n h2])⟩, ⟨t4, t5, t6, t7, t8, t9⟩, ⟨sA_s, ?_⟩, ?_, ?_, t13.sa (Or.inr rfl), t14, t15, t16, ?_⟩
  · exact t10'.to (fun i h1 h2 => by rw [sA_m (by omega)])
  · exact fun i hi => by rw [sA_m (by omega)]; exact t11 i hi
  · exact fun i hi => by rw [sA_n (by omega)]; exact t12 i hi
  · intro x hx
    rcases List.mem_cons.mp hx with h | h
    · subst h; exact ho
    · exact t17 x (List.mem_cons_of_mem _ h)
/-- a failure behind a part -/
theorem resG {x y : Nat} {σ : MS} (h5 : σ.1 5 = nI x) (h6 : σ.1 6 = nI y) (hx : x < 100) (F : FQ σ0 σ) (hc : ∃ k, k < 1650 ∧ σ.1 92 = nI k) (hn : 1 ≤ n) : RES σ0 B L m b d0 a1 (cG n a1 (σ, 0)) (.inl (x, y)) := fun h => by
  refine ⟨_, errG (by rw [h5]; exact nz_k h hx) hn, by rw [sI_n (by omega)]; exact h5, by rw [sI_n (by omega)]; exact h6, sI_s, F.si (by omega), hc⟩
theorem tks (T : TQ σ0 B L m b σ q S O d) (hq : sk B L q = q) (hc : c < 256) : fX6_takesSign σ (nI c) = if SI B L q c then some (sI σ 2 (nI (q + 1)), 1) else some (σ, 0) := by
  have t := takesSign_o T.1.1 T.2.1.1 hc
  rw [hq, sI_id T.1.1.2.2.2.2] at t
  exact t
/-- behind a part, where no bracket is closed -/
theorem goes122 (hN : IHA σ0 B L m b d0 a1 N) (T1 : TQ σ0 B L m b σ q S O d) (ss : sk B L q = q) (hw : wf S) (hh : hd S < 60) (hd0 : d = d0 + cq S) (hb : O.length + b + S.length ≤ q) (hn : L - q + 2 ≤ n) :
    RES σ0 B L m b d0 a1 ((fX6_qGoesOn_122 σ).bind (cG n a1)) (if SI B L q 42 then xM B L m N true (q + 1) (3 :: (dw q34 S O).1) (dw q34 S O).2 d
    else if SI B L q 47 then xM B L m N true (q + 1) (4 :: (dw q34 S O).1) (dw q34 S O).2 d
    else if SI B L q 43 then xM B L m N true (q + 1) (1 :: (dw q14 S O).1) (dw q14 S O).2 d
    else if SI B L q 45 then xM B L m N true (q + 1) (2 :: (dw q14 S O).1) (dw q14 S O).2 d
    else if brS S = 21 ∨ brS S = 22 then (if SI B L q 44 then xM B L m N true (q + 1) ((brS S + 2) :: (dw nBr S O).1.tail) (dw nBr S O).2 d else .inl (1, q))
    else if brS S = 0 then .inr (q, O ++ S) else .inl (1, q)) := by
  have hbd := T1.bd
  have FUe : FU = 100000 := rfl
  obtain ⟨n, rfl⟩ : ∃ k, n = k + 1 := ⟨n - 1, by omega⟩
  have k42 := tks (c := 42) T1 ss (by omega)
  have k47 := tks (c := 47) T1 ss (by omega)
  have k43 := tks (c := 43) T1 ss (by omega)
  have k45 := tks (c := 45) T1 ss (by omega)
  rw [show nI 42 = (42 : Int32) from rfl] at k42
  rw [show nI 47 = (47 : Int32) from rfl] at k47
  rw [show nI 43 = (43 : Int32) from rfl] at k43
  rw [show nI 45 = (45 : Int32) from rfl] at k45
  have e22 : (sI σ 2 (nI (q + 1))).1 2 = nI (q + 1) := sI_s
  have e23 : nI (q + 1) - 1 = nI q := by rw [nI_m1 (by omega)]; exact congrArg nI (by omega)
  have at0 : q < L → aI (sI σ 2 (nI (q + 1))) 0 (nI q) = some (nI (B q)) := fun hl => T1.1.1.at hl
  have TG : ∀ c, SI B L q c → (c < 48 ∨ 57 < c ∧ c < 97) → TQ σ0 B L m b (sI σ 2 (nI (q + 1))) (q + 1) S O d := fun c z hc => by
    have := T1.sg (by rw [ss]; exact z.1) (by rw [ss]; exact noL hc z)
    rw [ss] at this
    exact this
  -- on to a part
  have goA : ∀ (σ3 : MS) (S3 O3 : List Nat), TQ σ0 B L m b σ3 (q + 1) S3 O3 d → wf S3 → d = d0 + cq S3 → O3.length + b + S3.length ≤ q + 1 → q < L → RES σ0 B L m b d0 a1 (cG (n + 1) a1 (σ3, 1)) (xM B L m N true (q + 1) S3 O3 d) := fun σ3 S3 O3 T3 w3 d3 b3 hl => by
    rw [cG_1 T3.2.1.1]
    exact hN (q + 1) S3 O3 d σ3 n FU T3 w3 d3 b3 (by omega) (by omega)
  have p34 : ∀ v, v = 3 ∨ v = 4 → SI B L q (if v = 3 then 42 else 47) → fX6_qGoesOn_122 σ = fX6_qGoesOn_161 (sI σ 2 (nI (q + 1))) (nI v) → RES σ0 B L m b d0 a1 ((fX6_qGoesOn_122 σ).bind (cG (n + 1) a1)) (xM B L m N true (q + 1) (v :: (dw q34 S O).1) (dw q34 S O).2 d) := fun v hv z e => by
    have T2 := TG _ z (by rcases hv with rfl | rfl <;> decide)
    obtain ⟨σ3, a3, T3⟩ := w162 (v := v) hv S O _ FU (FU_lt (by omega)) (by omega) T2
    obtain ⟨w1, w2, w3, w4⟩ := wf_dw (q := q34) (fun o ho y => by have := ho.1; omega) S O hw hh
    have dl := dw_len (q := q34) S O
    rw [e]
    unfold fX6_qGoesOn_161
    rw [a3, bsm]
    exact goA σ3 _ _ T3 ⟨w1, Or.inr (Or.inr ⟨by omega, w2⟩)⟩ (by rw [cq_c, if_neg (by omega)]; omega) (by simp only [List.length_cons]; omega) z.1
  have p14 : ∀ v, v = 1 ∨ v = 2 → SI B L q (if v = 1 then 43 else 45) → fX6_qGoesOn_122 σ = fX6_qGoesOn_246 (sI σ 2 (nI (q + 1))) (nI v) → RES σ0 B L m b d0 a1 ((fX6_qGoesOn_122 σ).bind (cG (n + 1) a1)) (xM B L m N true (q + 1) (v :: (dw q14 S O).1) (dw q14 S O).2 d) := fun v hv z e => by
    have T2 := TG _ z (by rcases hv with rfl | rfl <;> decide)
    obtain ⟨σ3, a3, T3⟩ := w247 (v := v) hv S O _ FU (FU_lt (by omega)) (by omega) T2
    obtain ⟨w1, w2, w3, w4⟩ := wf_dw (q := q14) (fun o ho y => by have := ho.1; omega) S O hw hh
    have dl := dw_len (q := q14) S O
    rw [e]
    unfold fX6_qGoesOn_246
    rw [a3, bsm]
    exact goA σ3 _ _ T3 ⟨w1, Or.inr (Or.inr ⟨by omega, w2⟩)⟩ (by rw [cq_c, if_neg (by omega)]; omega) (by simp only [List.length_cons]; omega) z.1
  by_cases z : SI B L q 42
  · rw [if_pos z] at k42 ⊢
    refine p34 3 (Or.inl rfl) z ?_
    have c42 : nI (B q) = (42 : Int32) := by rw [z.2]; rfl
    simp only [fX6_qGoesOn_122, k42, bsm, if_neg n01, fX6_qGoesOn_140, e22, e23, at0 z.1, c42, if_true]
    rfl
  rw [if_neg z] at k42 ⊢
  by_cases z : SI B L q 47
  · rw [if_pos z] at k47 ⊢
    refine p34 4 (Or.inr rfl) z ?_
    have c42 : ¬ nI (B q) = (42 : Int32) := by rw [z.2]; decide
    simp only [fX6_qGoesOn_122, k42, k47, bsm, if_true, if_neg n01, fX6_qGoesOn_140, e22, e23, at0 z.1, if_neg c42]
    rfl
  rw [if_neg z] at k47 ⊢
  by_cases z : SI B L q 43
  · rw [if_pos z] at k43 ⊢
    refine p14 1 (Or.inl rfl) z ?_
    have c42 : nI (B q) = (43 : Int32) := by rw [z.2]; rfl
    simp only [fX6_qGoesOn_122, k42, k47, k43, bsm, if_true, if_neg n01, fX6_qGoesOn_225, e22, e23, at0 z.1, c42]
    rfl
  rw [if_neg z] at k43 ⊢
  by_cases z : SI B L q 45
  · rw [if_pos z] at k45 ⊢
    refine p14 2 (Or.inr rfl) z ?_
    have c42 : ¬ nI (B q) = (43 : Int32) := by rw [z.2]; decide
    simp only [fX6_qGoesOn_122, k42, k47, k43, k45, bsm, if_true, if_neg n01, fX6_qGoesOn_225, e22, e23, at0 z.1, if_neg c42]
    rfl
  rw [if_neg z] at k45 ⊢
  have br := T1.brk
  have t5 := T1.2.1.1
  have e2 := T1.1.1.2.2.2.2
  have bl := br_lt S
  by_cases zb : brS S = 21 ∨ brS S = 22
  · rw [if_pos zb]
    rw [if_neg (by omega)] at br
    have as := asksSign_o (c := 44) T1.1.1 t5 (by omega)
    rw [ss, sI_id e2, show nI 44 = (44 : Int32) from rfl] at as
    have st : fX6_qGoesOn_122 σ = fX6_qGoesOn_326 σ := by
      have k21 : (nI (brS S) = (21 : Int32)) = (brS S = 21) := nI_eqE (b := 21) (by omega) (by omega)
      have k22 : (nI (brS S) = (22 : Int32)) = (brS S = 22) := nI_eqE (b := 22) (by omega) (by omega)
      simp only [fX6_qGoesOn_122, k42, k47, k43, k45, bsm, if_true, br, k21, k22]
      by_cases y : brS S = 21
      · rw [if_pos y]
      · rw [if_neg y, if_pos (zb.resolve_left y)]
    rw [st]
    by_cases y : SI B L q 44
    · rw [if_pos y] at as ⊢
      have T2 := TG 44 y (by omega)
      obtain ⟨σ3, a3, T3⟩ := T2.tob
      obtain ⟨S2, b1, b2⟩ := dw_br S O (by omega)
      obtain ⟨w1, w2, w3, w4⟩ := wf_dw (q := nBr) (fun o ho y => y ho) S O hw hh
      have dl := dw_len (q := nBr) S O
      rw [b1] at T3 w1 w3 dl
      obtain ⟨n1, n2, n3, n4, n5, n6, n7⟩ := T3.top
      obtain ⟨σ4, a4, T4⟩ := T3.rep (c := brS S + 2) (by omega)
      have e5 : (sI σ 2 (nI (q + 1))).1 5 = 0 := T2.2.1.1
      have e6 : nI (brS S) + (2 : Int32) = nI (brS S + 2) := nI_add _ 2
      have st2 : fX6_qGoesOn_326 σ = some (σ4, 1) := by
        simp only [fX6_qGoesOn_326, as, bsm, e5, if_true, a3, n1, n3, n4, e6, a4]
      rw [st2, bsm, b1]
      simp only [List.length_cons] at dl
      show RES σ0 B L m b d0 a1 (cG (n + 1) a1 (σ4, 1)) (xM B L m N true (q + 1) ((brS S + 2) :: S2) (dw nBr S O).2 d)
      refine goA σ4 _ _ T4 ⟨w1.1, Or.inl ⟨by omega, by omega⟩⟩ ?_ (by simp only [List.length_cons]; omega) y.1
      rw [cq_c, if_pos (by omega)] at w3 ⊢
      omega
    · rw [if_neg y] at as ⊢
      have e5 : ¬ (sI (sI σ 5 1) 6 (nI q)).1 5 = 0 := by rw [sI_n (by omega), sI_s]; decide
      have st2 : fX6_qGoesOn_326 σ = some (sI (sI σ 5 1) 6 (nI q), 0) := by
        simp only [fX6_qGoesOn_326, as, bsm, if_neg e5]
      rw [st2, bsm]
      exact resG (by rw [sI_n (by omega)]; exact sI_s) sI_s (by omega) ((T1.fq.si (by omega)).si (by omega)) T1.c92 (by omega)
  rw [if_neg zb]
  have base : fX6_qGoesOn_122 σ = if brS S = 0 then some (σ, 0) else some (sI (sI σ 5 1) 6 (nI q), 0) := by
    by_cases y : brS S = 0
    · rw [if_pos y] at br ⊢
      have n1 : ¬ (-1 : Int32) = 21 := by decide
      have n2 : ¬ (-1 : Int32) = 22 := by decide
      simp only [fX6_qGoesOn_122, k42, k47, k43, k45, bsm, if_true, br, if_neg n1, if_neg n2]
    · rw [if_neg y] at br ⊢
      have n1 : ¬ nI (brS S) = (21 : Int32) := by rw [show (21 : Int32) = nI 21 from rfl, nI_eqE (by omega) (by omega)]; omega
      have n2 : ¬ nI (brS S) = (22 : Int32) := by rw [show (22 : Int32) = nI 22 from rfl, nI_eqE (by omega) (by omega)]; omega
      have n3 : ¬ nI (brS S) = (-1 : Int32) := by rw [nI_eqm (by omega)]; exact id
      simp only [fX6_qGoesOn_122, k42, k47, k43, k45, bsm, if_true, br, if_neg n1, if_neg n2, if_neg n3, t5, fail_o t5, e2]
  rw [base]
  by_cases y : brS S = 0
  · rw [if_pos y, if_pos y, bsm, cG_0]
    obtain ⟨σ3, a3, T3⟩ := sums53 a1 S O σ FU (FU_lt (by omega)) T1
    have c0 := cq_0 S hw hh y
    rw [a3]
    refine ⟨σ3, rfl, ?_⟩
    rw [hd0, c0, Nat.add_zero] at T3
    exact T3
  · rw [if_neg y, if_neg y, bsm]
    exact resG (by rw [sI_n (by omega)]; exact sI_s) sI_s (by omega) ((T1.fq.si (by omega)).si (by omega)) T1.c92 (by omega)
theorem partG (hN : IHA σ0 B L m b d0 a1 N) (hG : IHG σ0 B L m b d0 a1 N) : IHG σ0 B L m b d0 a1 (N + 1) := by
  intro p S O d σ n g T hw hh hd0 hb hn hg
  obtain ⟨g, rfl⟩ : ∃ k, g = k + 1 := ⟨g - 1, by omega⟩
  have hbd := T.bd
  have lk := T.1.1.look
  have T1 := T.blk
  have qg := @sk_ge p L B
  have ce : (chI B L (sk B L p) = (41 : Int32)) = SI B L (sk B L p) 41 := ch_eq (c := 41) T.1.1.lt T.1.1.2.1 (by omega)
  have ss := @sk_sk p L B
  have ql := T1.1.1.2.2.1
  have h5 := T.2.1.1
  rw [xM]
  unfold XG
  generalize sk B L p = q at *
  have br := T1.brk
  have bl := br_lt S
  have e2 : (sI σ 2 (nI q)).1 2 = nI q := sI_s
  by_cases z : SI B L q 41 ∧ (brS S = 20 ∨ brS S = 23 ∨ brS S = 24)
  rotate_left
  · rw [if_neg z]
    have st : fX6_qGoesOn_0 (g + 1) σ = fX6_qGoesOn_122 (sI σ 2 (nI q)) := by
      simp only [fX6_qGoesOn_0, h5, if_true, lk, bsm, ce]
      by_cases y : SI B L q 41
      · have nb : ¬ brS S = 20 ∧ ¬ brS S = 23 ∧ ¬ brS S = 24 := ⟨fun x => z ⟨y, Or.inl x⟩, fun x => z ⟨y, Or.inr (Or.inl x)⟩, fun x => z ⟨y, Or.inr (Or.inr x)⟩⟩
        rw [if_pos y, br, bsm, bsm, bsm]
        by_cases b0 : brS S = 0
        · rw [if_pos b0, if_neg (by decide), if_neg (by decide), if_neg (by decide)]
        · have k20 : (nI (brS S) = (20 : Int32)) = (brS S = 20) := nI_eqE (b := 20) (by omega) (by omega)
          have k23 : (nI (brS S) = (23 : Int32)) = (brS S = 23) := nI_eqE (b := 23) (by omega) (by omega)
          have k24 : (nI (brS S) = (24 : Int32)) = (brS S = 24) := nI_eqE (b := 24) (by omega) (by omega)
          rw [if_neg b0]
          simp only [k20, k23, k24, if_neg nb.1, if_neg nb.2.1, if_neg nb.2.2]
      · rw [if_neg y]
    rw [st]
    exact goes122 hN T1 ss hw hh hd0 (by omega) (by omega)
  rw [if_pos z]
  have z1 := z.1.1
  have b0 : ¬ brS S = 0 := by omega
  rw [if_neg b0] at br
  have T2 := T1.sg (by rw [ss]; exact z1) (by rw [ss]; exact noL (by omega) z.1)
  rw [ss, sI_sI] at T2
  obtain ⟨σ3, a3, T3⟩ := T2.tob
  obtain ⟨S2, b1, b2⟩ := dw_br S O b0
  obtain ⟨w1, w2, w3, w4⟩ := wf_dw (q := nBr) (fun o ho y => y ho) S O hw hh
  have dl := dw_len (q := nBr) S O
  rw [b1] at T3 w1 w3 dl
  obtain ⟨n1, n2, n3, n4, n5, n6, n7⟩ := T3.top
  have t8 := T3.2.1.2.2.2.2.1
  have d6 := T3.2.2.2.2.2.2.1
  rw [cq_c, if_pos (by omega)] at w3
  have e1 : nI d - 1 = nI (d - 1) := nI_m1 (by omega)
  have T4 := (T3.pop).dep (d' := d - 1) (by omega)
  simp only [List.length_cons] at dl
  have x95 : (sI σ3 94 (nI (b + S2.length))).1 95 = nI d := by rw [sI_n (by omega)]; exact t8
  have x94 : (sI (sI σ3 94 (nI (b + S2.length))) 95 (nI (d - 1))).1 94 = nI (b + S2.length) := by rw [sI_n (by omega)]; exact sI_s
  have g93 : aI (sI (sI σ3 94 (nI (b + S2.length))) 95 (nI (d - 1))) 93 (nI (b + S2.length)) = some (nI (brS S)) := n4
  have k20 : (nI (brS S) = (20 : Int32)) = (brS S = 20) := nI_eqE (b := 20) (by omega) (by omega)
  have k23 : (nI (brS S) = (23 : Int32)) = (brS S = 23) := nI_eqE (b := 23) (by omega) (by omega)
  have k24 : (nI (brS S) = (24 : Int32)) = (brS S = 24) := nI_eqE (b := 24) (by omega) (by omega)
  have st43 : fX6_qGoesOn_43 (fun σ' => fX6_qGoesOn_0 g σ') (sI σ 2 (nI q)) = if brS S = 20 then fX6_qGoesOn_115 (fun σ' => fX6_qGoesOn_0 g σ') (sI (sI σ3 94 (nI (b + S2.length))) 95 (nI (d - 1))) else if brS S = 23 then fX6_qGoesOn_112 (fun σ' => fX6_qGoesOn_0 g σ') (sI (sI σ3 94 (nI (b + S2.length))) 95 (nI (d - 1))) (5 : Int32) else fX6_qGoesOn_112 (fun σ' => fX6_qGoesOn_0 g σ') (sI (sI σ3 94 (nI (b + S2.length))) 95 (nI (d - 1))) (6 : Int32) := by
    simp only [fX6_qGoesOn_43, e2, nI_1, sI_sI, a3, bsm, n1, n3, x95, e1, x94, g93, k20, k23]
  have st : fX6_qGoesOn_0 (g + 1) σ = fX6_qGoesOn_43 (fun σ' => fX6_qGoesOn_0 g σ') (sI σ 2 (nI q)) := by
    simp only [fX6_qGoesOn_0, h5, if_true, lk, bsm, ce, if_pos z.1, br, k20, k23, k24]
    by_cases y : brS S = 20
    · rw [if_pos y]
    rw [if_neg y]
    by_cases y2 : brS S = 23
    · rw [if_pos y2]
    rw [if_neg y2, if_pos (by omega)]
  rw [st, st43, b1]
  show RES σ0 B L m b d0 a1 _ (xM B L m N false (q + 1) (ep S2 (if brS S = 20 then (dw nBr S O).2 else (dw nBr S O).2 ++ [if brS S = 23 then 5 else 6]) (d - 1)).1 (ep S2 (if brS S = 20 then (dw nBr S O).2 else (dw nBr S O).2 ++ [if brS S = 23 then 5 else 6]) (d - 1)).2.1 (ep S2 (if brS S = 20 then (dw nBr S O).2 else (dw nBr S O).2 ++ [if brS S = 23 then 5 else 6]) (d - 1)).2.2)
  have fin : ∀ (σ5 : MS) (O5 : List Nat), TQ σ0 B L m b σ5 (q + 1) S2 O5 (d - 1) → O5.length + b + S2.length ≤ q + 1 → RES σ0 B L m b d0 a1 ((fX6_qGoesOn_115 (fun σ' => fX6_qGoesOn_0 g σ') σ5).bind (cG n a1)) (xM B L m N false (q + 1) (ep S2 O5 (d - 1)).1 (ep S2 O5 (d - 1)).2.1 (ep S2 O5 (d - 1)).2.2) := by
    intro σ5 O5 T5 hb5
    obtain ⟨v1, v2, v3, v4⟩ := wf_ep (d0 := d0) S2 O5 (d - 1) w1.1 (by omega)
    obtain ⟨σ6, a6, T6⟩ := T5.ends (by omega)
    have st5 : fX6_qGoesOn_115 (fun σ' => fX6_qGoesOn_0 g σ') σ5 = fX6_qGoesOn_0 g σ6 := by
      simp only [fX6_qGoesOn_115, a6, bsm]
    rw [st5]
    exact hG (q + 1) _ _ _ σ6 n g T6 v1 v2 v3 (by omega) (by omega) (by omega)
  have fin2 : ∀ c, RES σ0 B L m b d0 a1 ((fX6_qGoesOn_112 (fun σ' => fX6_qGoesOn_0 g σ') (sI (sI σ3 94 (nI (b + S2.length))) 95 (nI (d - 1))) (nI c)).bind (cG n a1)) (xM B L m N false (q + 1) (ep S2 ((dw nBr S O).2 ++ [c]) (d - 1)).1 (ep S2 ((dw nBr S O).2 ++ [c]) (d - 1)).2.1 (ep S2 ((dw nBr S O).2 ++ [c]) (d - 1)).2.2) := by
    intro c
    obtain ⟨σ5, a5, T5⟩ := T4.code (c := c) (by omega)
    have st6 : fX6_qGoesOn_112 (fun σ' => fX6_qGoesOn_0 g σ') (sI (sI σ3 94 (nI (b + S2.length))) 95 (nI (d - 1))) (nI c) = fX6_qGoesOn_115 (fun σ' => fX6_qGoesOn_0 g σ') σ5 := by
      simp only [fX6_qGoesOn_112, a5, bsm]
    rw [st6]
    exact fin σ5 _ T5 (by simp only [List.length_append, List.length_cons, List.length_nil]; omega)
  by_cases y : brS S = 20
  · rw [if_pos y, if_pos y]
    exact fin _ _ T4 (by omega)
  rw [if_neg y, if_neg y]
  by_cases y2 : brS S = 23
  · rw [if_pos y2, if_pos y2]
    exact fin2 5
  · rw [if_neg y2, if_neg y2]
    exact fin2 6
theorem sumsN (hm : m < 4) : ∀ N, IHA σ0 B L m b d0 a1 N ∧ IHG σ0 B L m b d0 a1 N := by
  intro N
  induction N with
  | zero => exact ⟨fun p S O d σ n f T _ _ _ _ _ h => absurd rfl h, fun p S O d σ n g T _ _ _ _ _ _ h => absurd rfl h⟩
  | succ N ih => exact ⟨partA hm ih.1 ih.2, partG ih.1 ih.2⟩
/-- the twin's sums -/
theorem qSums_o (hm : m < 4) (T : TQ σ0 B L m b (sI σ 96 (σ.1 94)) p [] O d) (hb : O.length + b ≤ p) : RES σ0 B L m b d (σ.1 96) (fX6_qSums σ) (xA B L m p [] O d) := by
  have hbd := T.bd
  have FUe : FU = 100000 := rfl
  have h5 := T.2.1.1
  have J := (sumsN (σ0 := σ0) (B := B) (L := L) (b := b) (d0 := d) (a1 := σ.1 96) hm (2 * (L - p) + 2)).1 p [] O d (sI σ 96 (σ.1 94)) 99999 FU T trivial rfl (by simp only [List.length_nil]; omega) (by omega) (by omega)
  have st : fX6_qSums σ = XA 99999 FU (σ.1 96) (sI σ 96 (σ.1 94)) := by
    unfold fX6_qSums
    have e : FU = 99999 + 1 := rfl
    have : fX6_qSums_15 (99999 + 1) (sI σ 96 (σ.1 94)) (σ.1 96) (1 : Int32) = XA 99999 FU (σ.1 96) (sI σ 96 (σ.1 94)) := by
      unfold XA
      generalize 99999 = n
      simp only [fX6_qSums_15, if_neg n01, h5, if_true, fX6_qPartTold]
      rfl
    rw [← this]
    rfl
  rw [st]
  exact J
end PCU

/-! PARSER, the twin's sums are the machine's (2) -/
set_option maxRecDepth 100000
section PCS
variable {B : Nat → Nat} {L m b p q p1 d d0 k c o n f g j v fu N : Nat} {S S' O O' cs : List Nat} {σ0 σ σ' : MS} {x a1 : Int32} {e : Nat × Nat}
theorem cG_1 (h : σ.1 5 = 0) : cG (n + 1) a1 (σ, 1) = XA n FU a1 σ := by
  unfold cG XA
  rw [if_neg n01]
  simp only [fX6_qSums_49, fX6_qSums_15, if_neg n01, h, if_true, fX6_qPartTold]
  rfl
theorem cG_0 : cG (n + 1) a1 (σ, 0) = fX6_qSums_53 FU σ a1 := by
  unfold cG
  rw [if_pos rfl]
  simp only [fX6_qSums_48, fX6_qSums_49, fX6_qSums_15, if_true]
theorem wdA_sk : wdA B L m (sk B L p) = wdA B L m p := by
  unfold wdA
  rw [sk_sk]
theorem wdA_h (h : wdA B L m q = some j) (hq : sk B L q = q) : j < 8 ∧ HW B L q (wdL (83 + j)) := by
  unfold wdA at h
  rw [hq] at h
  by_cases g : LEa B L q ∧ ¬ PT B q
  · rw [if_pos g] at h
    cases hf : fd B q (we B L q) askL with
    | none =>
      rw [hf] at h
      cases h
    | some i =>
      rw [hf] at h
      have h' : (if alw m i then some i else none) = some j := h
      by_cases ya : alw m i
      · rw [if_pos ya] at h'
        have hij : i = j := Option.some.inj h'
        subst hij
        obtain ⟨h1, h2⟩ := fd_s hf
        have h8 : i < 8 := h1
        refine ⟨h8, g, ?_⟩
        have : askL.getD i [] = wdL (83 + i) := by
          have h3 : i = 0 ∨ i = 1 ∨ i = 2 ∨ i = 3 ∨ i = 4 ∨ i = 5 ∨ i = 6 ∨ i = 7 := by omega
          rcases h3 with rfl | rfl | rfl | rfl | rfl | rfl | rfl | rfl <;> rfl
        rw [← this]
        exact h2
      · rw [if_neg ya] at h'
        cases h'
  · rw [if_neg g] at h
    cases h
/-- where the machine goes on expecting a part -/
def IHA (σ0 : MS) (B : Nat → Nat) (L m b d0 : Nat) (a1 : Int32) (N : Nat) : Prop := ∀ p S O d σ n f, TQ σ0 B L m b σ p S O d → wf S → d = d0 + cq S → O.length + b + S.length ≤ p → L - p + 2 ≤ n → L - p + 2 ≤ f → RES σ0 B L m b d0 a1 (XA n f a1 σ) (xM B L m N true p S O d)
def IHG (σ0 : MS) (B : Nat → Nat) (L m b d0 : Nat) (a1 : Int32) (N : Nat) : Prop := ∀ p S O d σ n g, TQ σ0 B L m b σ p S O d → wf S → hd S < 60 → d = d0 + cq S → O.length + b + S.length ≤ p → L - p + 2 ≤ n → L - p + 1 ≤ g → RES σ0 B L m b d0 a1 (XG n g a1 σ) (xM B L m N false p S O d)
/-- a failure where a part is expected -/
theorem resE {x y : Nat} {σ : MS} (h5 : σ.1 5 = nI x) (h6 : σ.1 6 = nI y) (hx : x < 100) (F : FQ σ0 σ) (hc : ∃ k, k < 1650 ∧ σ.1 92 = nI k) (hf : 1 ≤ f) (hn : 1 ≤ n) : RES σ0 B L m b d0 a1 (XA n f a1 σ) (.inl (x, y)) := fun h => by
  refine ⟨_, errP (by rw [h5]; exact nz_k h hx) hf hn, by rw [sI_n (by omega)]; exact h5, by rw [sI_n (by omega)]; exact h6, sI_s, F.si (by omega), hc⟩
theorem noL {c : Nat} (hc : c < 48 ∨ 57 < c ∧ c < 97) (h : SI B L q c) : ¬ LE (B q) ∧ ¬ DI (B q) := by
  have := h.2
  constructor <;> intro z <;> omega
theorem TQ.fq (T : TQ σ0 B L m b σ p S O d) : FQ σ0 σ := T.2.2.2.2.2.1
/-- in brackets: the sign ( must stand -/
theorem partO (hN : IHA σ0 B L m b d0 a1 N) (T : TQ σ0 B L m b σ q S O d) (hw : wf S) (hd0 : d = d0 + cq S) (hb : O.length + b + S.length + 1 ≤ q) (hn : L - q + 2 ≤ n) (hf : L - q + 2 ≤ f) (hk : k = 21 ∨ k = 22) (y : Int32) (hy : (k = 22 ∧ y = 0) ∨ (k = 21 ∧ y = 1)) :
    RES σ0 B L m b d0 a1 ((fX6_qPartTold_101 (fun σ' b1 => fX6_qPartTold_2 f σ' b1) σ (1 : Int32) y).bind fun x3 => if (x3.1 5) = 0 then (fX6_qGoesOn x3).bind (cG n a1) else fX6_qSums_48 (fun σ' b1 b2 => fX6_qSums_15 n σ' b1 b2) x3 a1) (if SI B L (sk B L q) 40 then openP d (sk B L q) (xM B L m N true (sk B L q + 1) (k :: S) O (d + 1)) else .inl (1, sk B L q)) := by
  have hbd := T.bd
  have lk := T.1.1.look
  have T1 := T.blk
  have qg := @sk_ge q L B
  have ce : (chI B L (sk B L q) = (40 : Int32)) = SI B L (sk B L q) 40 := ch_eq (c := 40) T.1.1.lt T.1.1.2.1 (by omega)
  have ss := @sk_sk q L B
  have ql := T1.1.1.2.2.1
  generalize sk B L q = r at *
  have e2 : (sI σ 2 (nI r)).1 2 = nI r := sI_s
  by_cases z : SI B L r 40
  rotate_left
  · rw [if_neg z]
    have as := asksSign_o (c := 40) T1.1.1 T1.2.1.1 (by omega)
    rw [ss, if_neg z, sI_id e2, show nI 40 = (40 : Int32) from rfl] at as
    have st : fX6_qPartTold_101 (fun σ' b1 => fX6_qPartTold_2 f σ' b1) σ (1 : Int32) y = fX6_qPartTold_2 f (sI (sI (sI σ 2 (nI r)) 5 1) 6 (nI r)) 1 := by
      simp only [fX6_qPartTold_101, lk, bsm, ce, if_neg z, fX6_qPartTold_118, if_true, fX6_qPartTold_144, as, fX6_qPartTold_183]
    rw [st]
    exact resE (f := f) (by rw [sI_n (by omega)]; exact sI_s) sI_s (by omega) ((T1.fq.si (by omega)).si (by omega)) T1.c92 (by omega) (by omega)
  rw [if_pos z]
  have z1 := z.1
  have nm : ¬ nI r = (-1 : Int32) := by rw [nI_eqm (by omega)]; exact id
  have base : fX6_qPartTold_101 (fun σ' b1 => fX6_qPartTold_2 f σ' b1) σ (1 : Int32) y = (fX6_qOpens (sI σ 2 (nI r)) (nI k) (nI r)).bind fun x1 => (fX6_asksSign x1 (40 : Int32)).bind fun x2 => fX6_qPartTold_2 f x2 1 := by
    rcases hy with ⟨rfl, rfl⟩ | ⟨rfl, rfl⟩
    · simp only [fX6_qPartTold_101, lk, bsm, ce, if_pos z, fX6_qPartTold_118, e2, if_neg nm, if_true, fX6_qPartTold_139, fX6_qPartTold_144, fX6_qPartTold_183]
      rfl
    · simp only [fX6_qPartTold_101, lk, bsm, ce, if_pos z, fX6_qPartTold_118, e2, if_neg nm, if_neg n01, fX6_qPartTold_139, fX6_qPartTold_144, fX6_qPartTold_183]
      rfl
  rw [base]
  rcases opens_o (o := k) T1 (by omega) (by omega) (nI r) with ⟨d6, op⟩ | ⟨d6, σ2, op, T2⟩
  · unfold openP
    rw [if_pos d6, op, bsm]
    have n5 : ¬ (sI (sI (sI σ 2 (nI r)) 5 4) 6 (nI r)).1 5 = 0 := by rw [sI_n (by omega), sI_s]; decide
    rw [asksSign_5 n5, bsm]
    exact resE (f := f) (by rw [sI_n (by omega)]; exact sI_s) sI_s (by omega) ((T1.fq.si (by omega)).si (by omega)) T1.c92 (by omega) (by omega)
  · unfold openP
    rw [if_neg d6, op, bsm]
    have as := asksSign_o (c := 40) T2.1.1 T2.2.1.1 (by omega)
    rw [ss, if_pos z, show nI 40 = (40 : Int32) from rfl] at as
    rw [as, bsm]
    have T3 := T2.sg (by rw [ss]; exact z1) (by rw [ss]; exact noL (by omega) z)
    rw [ss] at T3
    refine hN (r + 1) (k :: S) O (d + 1) _ n f T3 ⟨hw, Or.inl (by omega)⟩ ?_ ?_ (by omega) (by omega)
    · rw [cq_c, if_pos (by omega)]
      omega
    · simp only [List.length_cons]
      omega
theorem partA (hm : m < 4) (hN : IHA σ0 B L m b d0 a1 N) (hG : IHG σ0 B L m b d0 a1 N) : IHA σ0 B L m b d0 a1 (N + 1) := by
  intro p S O d σ n f T hw hd0 hb hn hf
  obtain ⟨f, rfl⟩ : ∃ k, f = k + 1 := ⟨f - 1, by omega⟩
  have hbd := T.bd
  have lk := T.1.1.look
  have T1 := T.blk
  have qg := @sk_ge p L B
  have ce : (chI B L (sk B L p) = (40 : Int32)) = SI B L (sk B L p) 40 := ch_eq (c := 40) T.1.1.lt T.1.1.2.1 (by omega)
  have ss := @sk_sk p L B
  have ql := T1.1.1.2.2.1
  have wa := wdA_sk (B := B) (L := L) (m := m) (p := p)
  have nk := nu_sk (B := B) (L := L) (lo := 0) (hi := 9999) (p := p)
  have ni := nu_i (B := B) (L := L) (lo := 0) (hi := 9999) T.1.1.2.2.1
  have h5 := T.2.1.1
  rw [xM]
  unfold XA
  generalize sk B L p = q at *
  have e2 : (sI σ 2 (nI q)).1 2 = nI q := sI_s
  have w8 := wordOf8 hm T1 ss
  have i81 := isHere_q (k := 81) T1 ss (by unfold isW; omega)
  have i82 := isHere_q (k := 82) T1 ss (by unfold isW; omega)
  have wg := @we_ge q L B
  have wl := @we_le q L B ql
  by_cases z : SI B L q 40
  · rw [if_pos z]
    have z1 := z.1
    have base : fX6_qPartTold_2 (f + 1) σ 1 = (fX6_qOpens (sI σ 2 (nI q)) (nI 20) (nI q)).bind fun x13 => fX6_qPartTold_2 f (sI x13 2 ((x13.1 2) + (1 : Int32))) 1 := by
      simp only [fX6_qPartTold_2, if_neg n01, h5, if_true, lk, bsm, w8, ce, if_pos z, e2, fX6_qPartTold_183]
      rfl
    rw [base]
    rcases opens_o (o := 20) T1 (by omega) (by omega) (nI q) with ⟨d6, op⟩ | ⟨d6, σ2, op, T2⟩
    · unfold openP
      rw [if_pos d6, op, bsm]
      exact resE (f := f) (by rw [sI_n (by omega), sI_n (by omega)]; exact sI_s) (by rw [sI_n (by omega)]; exact sI_s) (by omega) (((T1.fq.si (by omega)).si (by omega)).si (by omega)) T1.c92 (by omega) (by omega)
    · unfold openP
      rw [if_neg d6, op, bsm]
      have T3 := T2.sg (by rw [ss]; exact z1) (by rw [ss]; exact noL (by omega) z)
      rw [ss] at T3
      have e22 : σ2.1 2 = nI q := T2.1.1.2.2.2.2
      rw [e22, nI_1]
      refine hN (q + 1) (20 :: S) O (d + 1) _ n f T3 ⟨hw, Or.inl (by omega)⟩ ?_ ?_ (by omega) (by omega)
      · rw [cq_c, if_pos (by omega)]
        omega
      · simp only [List.length_cons]
        omega
  rw [if_neg z]
  by_cases z1 : HW B L q (wdL 81)
  · rw [if_pos z1] at i81 ⊢
    have wgt := we_gt z1.1.1
    obtain ⟨σ2, t1, T2⟩ := takes_q (k := 81) T1 ss (by unfold isW; omega)
    rw [if_pos z1] at t1 T2
    have base : fX6_qPartTold_2 (f + 1) σ 1 = fX6_qPartTold_101 (fun σ' b1 => fX6_qPartTold_2 f σ' b1) σ2 1 1 := by
      simp only [fX6_qPartTold_2, if_neg n01, h5, if_true, lk, bsm, w8, ce, if_neg z, i81, fX6_qPartTold_78, t1]
    rw [base]
    exact partO hN T2 hw hd0 (by omega) (by omega) (by omega) (Or.inl rfl) 1 (Or.inr ⟨rfl, rfl⟩)
  rw [if_neg z1] at i81 ⊢
  by_cases z2 : HW B L q (wdL 82)
  · rw [if_pos z2] at i82 ⊢
    have wgt := we_gt z2.1.1
    obtain ⟨σ2, t1, T2⟩ := takes_q (k := 81) T1 ss (by unfold isW; omega)
    rw [if_neg z1] at t1 T2
    obtain ⟨σ3, t2, T3⟩ := asks_q (k := 82) T2 ss (by unfold isW; omega) z2
    have base : fX6_qPartTold_2 (f + 1) σ 1 = fX6_qPartTold_101 (fun σ' b1 => fX6_qPartTold_2 f σ' b1) σ3 1 0 := by
      simp only [fX6_qPartTold_2, if_neg n01, h5, if_true, lk, bsm, w8, ce, if_neg z, i81, i82, fX6_qPartTold_78, t1, t2]
    rw [base]
    exact partO hN T3 hw hd0 (by omega) (by omega) (by omega) (Or.inr rfl) 0 (Or.inl ⟨rfl, rfl⟩)
  rw [if_neg z2] at i82 ⊢
  by_cases z3 : m = 3 ∧ HW B L q (wdL 85)
  · rw [if_pos z3] at w8 ⊢
    have wgt := we_gt z3.2.1.1
    have n8 : ¬ (8 : Int32) = -1 := by decide
    have e60 : ((60 : Int32) + 8) - 8 = nI 60 := by decide
    have base : fX6_qPartTold_2 (f + 1) σ 1 = (fX6_qOpens (sI σ 2 (nI q)) (nI 60) (nI q)).bind fun x11 => (fX6_qAsksWord x11 (8 : Int32)).bind fun x12 => fX6_qPartTold_2 f x12 1 := by
      simp only [fX6_qPartTold_2, if_neg n01, h5, if_true, lk, bsm, w8, ce, if_neg z, i81, i82, if_neg n8, e60, e2, fX6_qPartTold_183]
    rw [base]
    rcases opens_o (o := 60) T1 (by omega) (by omega) (nI q) with ⟨d6, op⟩ | ⟨d6, σ2, op, T2⟩
    · unfold openP
      rw [if_pos d6, op, bsm]
      have n5 : ¬ (sI (sI (sI σ 2 (nI q)) 5 4) 6 (nI q)).1 5 = 0 := by rw [sI_n (by omega), sI_s]; decide
      have aw : fX6_qAsksWord (sI (sI (sI σ 2 (nI q)) 5 4) 6 (nI q)) (8 : Int32) = some (sI (sI (sI σ 2 (nI q)) 5 4) 6 (nI q)) := by
        unfold fX6_qAsksWord
        rw [if_neg (by decide), if_neg (by decide), if_neg (by decide), if_neg (by decide), if_neg (by decide), if_neg (by decide), if_neg (by decide), if_neg (by decide), asks_5 n5, bsm]
      rw [aw, bsm]
      exact resE (f := f) (by rw [sI_n (by omega)]; exact sI_s) sI_s (by omega) ((T1.fq.si (by omega)).si (by omega)) T1.c92 (by omega) (by omega)
    · unfold openP
      rw [if_neg d6, op, bsm]
      obtain ⟨σ3, aw, T3⟩ := asksWord_8 T2 ss z3.2
      rw [aw, bsm]
      refine hN (we B L q) (60 :: S) O (d + 1) _ n f T3 ⟨hw, Or.inr (Or.inl rfl)⟩ ?_ ?_ (by omega) (by omega)
      · rw [cq_c, if_pos (by omega)]
        omega
      · simp only [List.length_cons]
        omega
  rw [if_neg z3] at w8 ⊢
  obtain ⟨f, rfl⟩ : ∃ k, f = k + 1 := ⟨f - 1, by omega⟩
  have w0 := wordOf0 hm T1 ss
  rw [wa] at w0
  have h51 := T1.2.1.1
  have base : fX6_qPartTold_2 (f + 1 + 1) σ 1 = (fX6_qWordOf (sI σ 2 (nI q)) (0 : Int32) (8 : Int32)).bind fun x2 => if x2.2 = (-1 : Int32) then fX6_qPartTold_212 x2.1 x2.2 else (fX6_qAsksWord x2.1 x2.2).bind fun x4 => fX6_qPartTold_212 x4 x2.2 := by
    rw [fX6_qPartTold_2]
    simp only [if_neg n01, h5, if_true, lk, bsm, w8, ce, if_neg z, i81, i82, fX6_qPartTold_183]
    rw [fX6_qPartTold_2]
    simp only [if_true, fX6_qPartTold_186, h51]
  rw [base, w0, bsm]
  have fin : ∀ (σ2 : MS) (r c : Nat), TQ σ0 B L m b σ2 r S O d → O.length + 1 + b + S.length ≤ r → p ≤ r → RES σ0 B L m b d0 a1 ((fX6_qPartTold_237 σ2 (nI c)).bind fun x3 => if (x3.1 5) = 0 then (fX6_qGoesOn x3).bind (cG n a1) else fX6_qSums_48 (fun σ' b1 b2 => fX6_qSums_15 n σ' b1 b2) x3 a1) (xM B L m N false r (ep S (O ++ [c]) d).1 (ep S (O ++ [c]) d).2.1 (ep S (O ++ [c]) d).2.2) := by
    intro σ2 r c T2 hb2 hr
    have hrL := T2.bd.2
    obtain ⟨σ3, c1, T3⟩ := T2.code (c := c) (by omega)
    obtain ⟨w1, w2, w3, w4⟩ := wf_ep S (O ++ [c]) d hw hd0
    obtain ⟨σ4, c2, T4⟩ := T3.ends (by omega)
    have st : fX6_qPartTold_237 σ2 (nI c) = some σ4 := by
      simp only [fX6_qPartTold_237, c1, bsm, c2]
    rw [st, bsm, T4.2.1.1, if_pos rfl]
    have l1 : (O ++ [c]).length = O.length + 1 := by simp
    exact hG r _ _ _ σ4 n FU T4 w1 w2 w3 (by omega) (by omega) (by have : FU = 100000 := rfl; omega)
  cases hwd : wdA B L m p with
  | some j =>
    obtain ⟨hj, hh⟩ := wdA_h (q := q) (by rw [wa]; exact hwd) ss
    have wgt := we_gt hh.1.1
    obtain ⟨σ2, aw, T2⟩ := asksWord_q T1 ss hj hh
    have nm : ¬ nI j = (-1 : Int32) := by rw [nI_eqm (by omega)]; exact id
    have oj : oI (some j) = nI j := rfl
    rw [oj]
    show RES σ0 B L m b d0 a1 ((if nI j = (-1 : Int32) then _ else (fX6_qAsksWord (sI σ 2 (nI q)) (nI j)).bind fun x4 => fX6_qPartTold_212 x4 (nI j)).bind _) _
    rw [if_neg nm, aw, bsm]
    have st : fX6_qPartTold_212 σ2 (nI j) = fX6_qPartTold_237 σ2 (nI (40 + j)) := by
      unfold fX6_qPartTold_212
      rw [if_neg nm, show (40 : Int32) = nI 40 from rfl, nI_add]
    rw [st]
    exact fin σ2 (we B L q) (40 + j) T2 (by omega) (by omega)
  | none =>
    have oj : oI none = (-1 : Int32) := rfl
    rw [oj]
    show RES σ0 B L m b d0 a1 ((if (-1 : Int32) = (-1 : Int32) then fX6_qPartTold_212 (sI σ 2 (nI q)) (-1 : Int32) else _).bind _) _
    rw [if_pos rfl]
    have nt := numT2 (lo := 0) (hi := 9999) T1.1.1 T1.1.2.1 h51 (by omega) (by omega)
    rw [nk] at nt
    rw [show nI 0 = (0 : Int32) from rfl, show nI 9999 = (9999 : Int32) from rfl] at nt
    cases hnu : nu B L 0 9999 p with
    | inl e =>
      rw [hnu] at nt ni
      obtain ⟨σ2, v', a1', a2, a3, a4, a5⟩ := nt
      have F2 : FQ σ0 σ2 := by
        obtain ⟨q1, q2, q3, q4⟩ := T1.fq
        exact ⟨by rw [a2.1]; exact q1, by rw [a2.1]; exact q2, fun k h1 h2 => by rw [a2.1]; exact q3 k h1 h2, fun k h2 h4 h5 h6 h39 h92 h94 h95 h96 => by rw [a2.2 k h2 h4 h5 h6 h39]; exact q4 k h2 h4 h5 h6 h39 h92 h94 h95 h96⟩
      have n5 : ¬ σ2.1 5 = 0 := by rw [a3]; exact nz_k (by omega) (by omega)
      have t92 : σ2.1 92 = nI O.length := by rw [a2.2 92 (by omega) (by omega) (by omega) (by omega) (by omega)]; exact T1.2.1.2.2.2.2.2
      have st : fX6_qPartTold_212 (sI σ 2 (nI q)) (-1 : Int32) = some (sI (sA σ2 91 O.length ((1000 : Int32) + v')) 92 (nI (O.length + 1))) := by
        unfold fX6_qPartTold_212
        rw [if_pos rfl, a1', bsm]
        have e5 : fX6_qEndsPart (sI (sA σ2 91 O.length ((1000 : Int32) + v')) 92 (nI (O.length + 1))) = some (sI (sA σ2 91 O.length ((1000 : Int32) + v')) 92 (nI (O.length + 1))) := by
          obtain ⟨fu, hf⟩ : ∃ fu, FU = fu + 1 := ⟨99999, rfl⟩
          unfold fX6_qEndsPart
          rw [hf]
          have : ¬ (sI (sA σ2 91 O.length ((1000 : Int32) + v')) 92 (nI (O.length + 1))).1 5 = 0 := by rw [sI_n (by omega)]; exact n5
          simp only [fX6_qEndsPart_0, if_neg this]
        simp only [fX6_qPartTold_237, fX6_qCode, t92, tp91 (show O.length < 1700 by omega), bsm, sA_1, nI_1, e5]
      rw [st, bsm]
      have n5' : ¬ (sI (sA σ2 91 O.length ((1000 : Int32) + v')) 92 (nI (O.length + 1))).1 5 = 0 := by rw [sI_n (by omega)]; exact n5
      rw [if_neg n5']
      intro hne
      refine ⟨_, errS n5' (by omega), ?_, ?_, sI_s, ((F2.sa (Or.inl rfl)).si (by omega)).si (by omega), O.length + 1, by omega, by rw [sI_n (by omega)]; exact sI_s⟩
      · rw [sI_n (by omega), sI_n (by omega)]
        exact a3
      · rw [sI_n (by omega), sI_n (by omega)]
        exact a4
    | inr e =>
      obtain ⟨r, v⟩ := e
      rw [hnu] at nt ni
      obtain ⟨⟨n1, n2⟩, n3, n4, n5⟩ := ni
      have T2 := T1.wd (q := r) (by omega) n2 n4
      have st : fX6_qPartTold_212 (sI σ 2 (nI q)) (-1 : Int32) = fX6_qPartTold_237 (sI (sI (sI σ 2 (nI q)) 2 (nI r)) 4 (nI r)) (nI (1000 + v)) := by
        have nt' : fX6_number (sI σ 2 (nI q)) 0 9999 = some (sI (sI (sI σ 2 (nI q)) 2 (nI r)) 4 (nI r), nI v) := nt
        unfold fX6_qPartTold_212
        rw [if_pos rfl, nt', bsm, show (1000 : Int32) = nI 1000 from rfl, nI_add]
      rw [st]
      exact fin _ r (1000 + v) T2 (by omega) (by omega)
end PCS

/-! PLAIN LAW, what may be seen, what is suggested: both sides -/
set_option maxRecDepth 100000
/-- but for the moment all is as before -/
def MV (M M' : CM) : Prop := M'.1 = M.1 ∧ M'.2.2 = M.2.2 ∧ ∀ o, o ≠ 12 → M'.2.1 o = M.2.1 o
def TV (σ σ' : MS) : Prop := σ'.2.2.1 = σ.2.2.1 ∧ σ'.2.1 = σ.2.1 ∧ (∀ k, k ≠ 53 → k ≠ 57 → k ≠ 58 → k ≠ 59 → k ≠ 98 → σ'.1 k = σ.1 k) ∧ (∀ k, k ≠ 97 → σ'.2.2.2 k = σ.2.2.2 k)
section PMY
variable {K : KE} {a i j k f p w n o : Nat} {M M' M1 M2 : CM} {σ σ' σ1 σ2 : MS} {nk nf np hr : Nat} {pt : Nat → Nat} {vl vf vm : Option Nat}
theorem MV.refl (M : CM) : MV M M := ⟨rfl, rfl, fun _ _ => rfl⟩
theorem MV.tr (h : MV M M1) (g : MV M1 M2) : MV M M2 := ⟨g.1.trans h.1, g.2.1.trans h.2.1, fun o q => (g.2.2 o q).trans (h.2.2 o q)⟩
theorem MV.mo {v : Int64} (h : MV M M') : MV M (mL M' 12 k v) := ⟨h.1, h.2.1, fun o q => by rw [mL_o q]; exact h.2.2 o q⟩
theorem MV.mf (h : MV M M') : MF i M M' := ⟨fun o _ => by rw [h.1], fun o _ q => h.2.2 o q, fun o _ => by rw [h.2.1], by rw [h.2.1]⟩
theorem MV.same (h : MV M M') : SameH M M' := ⟨by rw [h.2.1], by rw [h.2.1]⟩
theorem TV.refl (σ : MS) : TV σ σ := ⟨rfl, rfl, fun _ _ _ _ _ _ => rfl, fun _ _ => rfl⟩
theorem TV.tr (h : TV σ σ1) (g : TV σ1 σ2) : TV σ σ2 := ⟨g.1.trans h.1, g.2.1.trans h.2.1, fun k a b c d e => (g.2.2.1 k a b c d e).trans (h.2.2.1 k a b c d e), fun k a => (g.2.2.2 k a).trans (h.2.2.2 k a)⟩
theorem TV.of (h : QF3 σ σ') : TV σ σ' := ⟨h.1, h.2.1, fun k a b c d e => h.2.2.1 k e a, h.2.2.2⟩
theorem TV.sI {v : Int32} (h : TV σ σ') (hk : k = 53 ∨ k = 57 ∨ k = 58 ∨ k = 59 ∨ k = 98) : TV σ (sI σ' k v) := ⟨h.1, h.2.1, fun j a b c d e => by rw [sI_n (by omega)]; exact h.2.2.1 j a b c d e, h.2.2.2⟩
theorem TV.tf (h : TV σ σ') : TF σ σ' := ⟨h.2.2.1, h.2.1, fun k _ _ _ => by rw [h.1], fun k _ q => h.2.2.2 k q⟩
theorem TV.up (h : TV σ σ') : UpS σ σ' := h.tf.up.up
theorem p_mom0 {u : Int64} : sCL (hp a M) (some (a + 12)) 1 (0 : Int32) u = some (hp a (mL M 12 0 u)) := p_mom (k := 0) (by omega)
theorem p_mom1 {u : Int64} : sCL (hp a M) (some (a + 12)) 1 (1 : Int32) u = some (hp a (mL M 12 1 u)) := p_mom (k := 1) (by omega)
theorem p_mom2 {u : Int64} : sCL (hp a M) (some (a + 12)) 1 (2 : Int32) u = some (hp a (mL M 12 2 u)) := p_mom (k := 2) (by omega)
theorem p_mom3 {u : Int64} : sCL (hp a M) (some (a + 12)) 1 (3 : Int32) u = some (hp a (mL M 12 3 u)) := p_mom (k := 3) (by omega)
theorem p_mom4 {u : Int64} : sCL (hp a M) (some (a + 12)) 1 (4 : Int32) u = some (hp a (mL M 12 4 u)) := p_mom (k := 4) (by omega)
theorem p_mom5 {u : Int64} : sCL (hp a M) (some (a + 12)) 1 (5 : Int32) u = some (hp a (mL M 12 5 u)) := p_mom (k := 5) (by omega)
theorem qp0 (h : σ.2.2.1 54 1 = nI n) (x : Int32) : fX6_qPartOf σ (nI 0) x = some (nI n).toInt64 := by
  unfold fX6_qPartOf
  rw [if_pos (by decide), show (1 : Int32) = nI 1 from rfl, tg54 (by omega), h]
  rfl
theorem qp1 (x : Int32) : fX6_qPartOf σ (nI 1) x = some (σ.1 58).toInt64 := by
  unfold fX6_qPartOf
  rw [if_neg (by decide), if_pos (by decide)]
theorem qp2 (x : Int32) : fX6_qPartOf σ (nI 2) x = some (σ.1 59).toInt64 := by
  unfold fX6_qPartOf
  rw [if_neg (by decide), if_neg (by decide), if_pos (by decide)]
theorem qp3 {x v : Int32} (h : fX6_partsOf σ x = some v) : fX6_qPartOf σ (nI 3) x = some v.toInt64 := by
  unfold fX6_qPartOf
  rw [if_neg (by decide), if_neg (by decide), if_neg (by decide), if_pos (by decide), h]
  rfl
theorem qp4 {x v : Int32} (h : fX6_seenBy σ (σ.1 57) x = some v) : fX6_qPartOf σ (nI 4) x = some v.toInt64 := by
  unfold fX6_qPartOf
  rw [if_neg (by decide), if_neg (by decide), if_neg (by decide), if_neg (by decide), if_pos (by decide), h]
  rfl
theorem qp5 {x v : Int32} (h : fX6_scoreOf σ (σ.1 57) x = some v) : fX6_qPartOf σ (nI 5) x = some v.toInt64 := by
  unfold fX6_qPartOf
  rw [if_neg (by decide), if_neg (by decide), if_neg (by decide), if_neg (by decide), if_neg (by decide), if_pos (by decide), h]
  rfl
theorem SR.mv (S : SR M i (σ.2.2.1 54) np pt hr) (h : MV M M') (g : TV σ σ') (hn : np ≤ 5) : SR M' i (σ'.2.2.1 54) np pt hr := S.m (fun t _ => by rw [h.1]) (fun j _ => by rw [g.1]) hn
theorem may_ok (X : HX a M σ nk nf np pt vl vf vm) (H : HTs K a M.2.2.2.1 σ vl vf vm) (hi : i < 22) (hw : w < 6) (hf : f < nf) (S : SR M i (σ.2.2.1 54) np pt hr) : ∃ M' σ' b, b < 2 ∧ fX5_may K (hp a M) (a + sbo i) (nI w) (nI f) = some (hp a M', nI b) ∧ fX6_may σ (nI w) (nI f) = some (σ', nI b) ∧ MV M M' ∧ TV σ σ' := by
  have b := X.bk
  obtain ⟨s, s1, s2, o1, o2, o3⟩ := X.over K hi hw hf S
  have vp := X.v.2.2.1 f
  by_cases hs : s = pt f
  · refine ⟨M, σ, 0, by omega, ?_, ?_, MV.refl M, TV.refl σ⟩
    · simp only [fX5_may, s_rcv hi, o1, bsm, if_pos hs]
      rfl
    · simp only [fX6_may, o2, o3, bsm, if_pos (congrArg nI hs)]
      rfl
  have o4 : ¬ nI s = nI (pt f) := by rw [nI_eqE (by omega) (by omega)]; exact hs
  obtain ⟨ha, g0, g2, g3, g4, g5, g9, g10, g11⟩ := X.set K
  have h0 := g0 M (SameH.refl M)
  by_cases hv : vm = none
  · have h48 : σ.2.2.1 48 5 = -1 := by
      rcases H.2.2 with ⟨q1, q2⟩ | ⟨r, cs, lo, hi', q1, -⟩
      · exact q2
      · rw [hv] at q1; cases q1
    refine ⟨M, sI σ 57 (nI w), 1, by omega, ?_, ?_, MV.refl M, (TV.refl σ).sI (by omega)⟩
    · simp only [fX5_may, s_rcv hi, o1, bsm, if_neg hs, if_true, s_g10 hi, x_g0, h0, g11 M (SameH.refl M), if_pos hv]
      rfl
    · simp only [fX6_may, o2, o3, bsm, if_neg o4, sI_2, ki5, tg48 (i := 5) (by omega), h48, if_true]
      rfl
  obtain ⟨fa, ia, f1, f2, f3, f4⟩ := X.film K hf
  obtain ⟨⟨a1, a2, a3, a4⟩, -, t1, t2, t3⟩ := id S
  have vq := (X.v.2.2.2.1 f hf).2
  obtain ⟨n, n1, n2⟩ := X.scoreB hw hf S
  have sc : ∀ M', SameH M M' → M'.1 = M.1 → fX5_score K (hp a M') (a + sbo i) (nI w) (nI f) = some (nI n) := fun M' e e2 => by
    rw [X.scoreC hi hw hf e (fun k hk => by rw [e2]; exact (t1 w k hw hk).1), n2]
  obtain ⟨bb, σ', b1, b2, b3, b4, b5⟩ := HTt.tell (K := K) (f := f) (M := M) (σ := sI σ 57 (nI w)) (M' := mL (mL (mL (mL M 12 0 (nI (hr % 24)).toInt64) 12 3 (nI (pt f)).toInt64) 12 4 (nI s).toInt64) 12 5 (nI n).toInt64) (w := 2) (by omega) (H.2.2.up (by omega) ((TV.refl σ).sI (k := 57) (v := nI w) (by omega)).up) hv ⟨rfl, rfl⟩ (fun j hj hj8 => by
      simp only [mL_2, true_and]
      rcases (show j = 0 ∨ j = 3 ∨ j = 4 ∨ j = 5 by omega) with h | h | h | h <;> subst h
      · exact BD_n (by omega)
      · exact BD_n (by omega)
      · exact BD_n (by omega)
      · exact BD_n (by omega)) (fun σ' Q j hj hj8 => by
      simp only [mL_2, true_and]
      have q1 : σ'.2.2.1 = σ.2.2.1 := Q.1
      have q2 : σ'.1 57 = nI w := by rw [Q.2.2.1 57 (by omega) (by omega), sI_s]
      have q3 : TV σ σ' := ((TV.refl σ).sI (k := 57) (v := nI w) (by omega)).tr (TV.of Q)
      rcases (show j = 0 ∨ j = 3 ∨ j = 4 ∨ j = 5 by omega) with h | h | h | h <;> subst h
      · exact qp0 (by rw [q1]; exact a3) _
      · refine qp3 ?_
        simp only [fX6_partsOf, ki8, nI_add, tg42 (i := 8 + f) (by omega), q1, vq, bsm]
      · refine qp4 ?_
        simp only [q2, fX6_seenBy, fX6_seenAt, ki2, ki14, ki6, nI_mul, nI_add, tg54 (i := 2 + 14 * w + 6 + f) (by omega), q1, s2, bsm]
      · refine qp5 ?_
        rw [q2, (X.to (SameH.refl M) q3.up).scoreT hw hf, sv_c (σ := σ) (σ' := σ') (by rw [q1]) (fun k _ => by rw [q1]) (by omega), n2])
  refine ⟨mL (mL (mL (mL M 12 0 (nI (hr % 24)).toInt64) 12 3 (nI (pt f)).toInt64) 12 4 (nI s).toInt64) 12 5 (nI n).toInt64, σ', bb, b1, ?_, ?_, ((((MV.refl M).mo).mo).mo).mo, ((TV.refl σ).sI (k := 57) (v := nI w) (by omega)).tr (TV.of b4)⟩
  · have z : zr (nI bb) = some (nI bb) := by
      rcases (show bb = 0 ∨ bb = 1 by omega) with h | h <;> subst h <;> rfl
    simp only [fX5_may, s_rcv hi, o1, bsm, if_neg hs, if_true, s_g10 hi, x_g0, h0, g11 M (SameH.refl M), if_neg hv, x_g6, m_g11, s_g0 hi, a1, (mod24 (show hr < 2 ^ 31 by omega)).1, p_mom0, x_rcv, f1 (mL M 12 0 (nI (hr % 24)).toInt64) ⟨rfl, rfl⟩, f2 (mL M 12 0 (nI (hr % 24)).toInt64) ⟨rfl, rfl⟩, vq, p_mom3, s_g4 hi, s_seenO hi hw, c_seen hi hw (show f < 8 by omega), mL_1, (t2 w f hw (by omega)).1, s2, p_mom4, sc (mL (mL (mL M 12 0 (nI (hr % 24)).toInt64) 12 3 (nI (pt f)).toInt64) 12 4 (nI s).toInt64) ⟨rfl, rfl⟩ rfl, p_mom5, mL_3, g11 (mL (mL (mL (mL M 12 0 (nI (hr % 24)).toInt64) 12 3 (nI (pt f)).toInt64) 12 4 (nI s).toInt64) 12 5 (nI n).toInt64) ⟨rfl, rfl⟩, b2, z]
  · have c1 : ∀ x y : Int32, (some (σ', x) : Option (MS × Int32)) = some (σ', y) ↔ x = y := fun x y => by simp
    have b6 : fX6_codesTell (sI σ 57 (nI w)) 2 (nI f) = some (σ', lN bb) := b3
    have b7 : ¬ σ.2.2.1 48 5 = -1 := b5
    simp only [fX6_may, o2, o3, bsm, if_neg o4, sI_2, ki5, tg48 (i := 5) (by omega), if_neg b7, b6]
    rcases (show bb = 0 ∨ bb = 1 by omega) with h | h <;> subst h
    · rw [if_neg (by decide)]
      rfl
    · rw [if_pos (by decide)]
      rfl
end PMY

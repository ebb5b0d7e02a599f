/-! PLAIN LAW, a question is asked of all films -/
set_option maxRecDepth 100000
/-- what the asking leaves as it was -/
def QMf (qa : Nat) (M0 M : CM) : Prop := (∀ o, o ≠ 0 → M.1 o = M0.1 o) ∧ (∀ k, k ≠ 19 → M.1 0 k = M0.1 0 k) ∧ (∀ o, o ≠ 14 → M.2.1 o = M0.2.1 o) ∧ M.2.2.1 = M0.2.2.1 ∧ (∀ y, y ≠ qa → M.2.2.2.1 y = M0.2.2.2.1 y) ∧ M.2.2.2.2 = M0.2.2.2.2
def QSf (σ0 σ : MS) : Prop := σ.2.2.1 = σ0.2.2.1 ∧ (∀ k, k ≠ 98 → k ≠ 100 → σ.1 k = σ0.1 k) ∧ (∀ k, k ≠ 99 → σ.2.1 k = σ0.2.1 k) ∧ (∀ k, k ≠ 97 → σ.2.2.2 k = σ0.2.2.2 k)
section PAS
variable {K : KE} {a i n k f p w hs nw qa r m hr nk nf np wq hi : Nat} {M M' M0 M1 M2 : CM} {σ σ' σ0 σ1 σ2 : MS} {pt : Nat → Nat} {vl vf vm t u : Option Nat} {cs : List Nat} {ff A : Int64} {D0 : Nat → Option HE}
theorem QMf.refl (qa : Nat) (M : CM) : QMf qa M M := ⟨fun _ _ => rfl, fun _ _ => rfl, fun _ _ => rfl, rfl, fun _ _ => rfl, rfl⟩
theorem QMf.tr (h : QMf qa M M1) (g : QMf qa M1 M2) : QMf qa M M2 := ⟨fun o q => (g.1 o q).trans (h.1 o q), fun o q => (g.2.1 o q).trans (h.2.1 o q), fun o q => (g.2.2.1 o q).trans (h.2.2.1 o q), g.2.2.2.1.trans h.2.2.2.1, fun o q => (g.2.2.2.2.1 o q).trans (h.2.2.2.2.1 o q), g.2.2.2.2.2.trans h.2.2.2.2.2⟩
theorem QSf.refl (σ : MS) : QSf σ σ := ⟨rfl, fun _ _ _ => rfl, fun _ _ => rfl, fun _ _ => rfl⟩
theorem QSf.tr (h : QSf σ σ1) (g : QSf σ1 σ2) : QSf σ σ2 := ⟨g.1.trans h.1, fun k q q2 => (g.2.1 k q q2).trans (h.2.1 k q q2), fun k q => (g.2.2.1 k q).trans (h.2.2.1 k q), fun k q => (g.2.2.2 k q).trans (h.2.2.2 k q)⟩
theorem QSf.up (h : QSf σ σ') : UpE σ σ' := ⟨fun k _ => by rw [h.1], h.2.2.2 41 (by omega)⟩
theorem QF.sf (h : QF σ σ') : QSf σ σ' := ⟨h.1, fun k q _ => h.2.2.1 k q, fun k _ => by rw [h.2.1], h.2.2.2⟩
theorem QK.sf (h : QK σ σ') : QSf σ σ' := ⟨by rw [h.1], fun k _ q => h.2.1 k q, h.2.2, fun k _ => by rw [h.1]⟩
theorem isIn_o (hn : n < 2 ^ 31) (σ : MS) (x : Int64) : fX6_isIn σ x 0 ((nI n - 1).toInt64) = if x < 0 ∨ (nI n).toInt64 ≤ x then some 0 else some 1 := by
  have e' : (nI n - 1).toInt = (n : Int) - 1 := by
    rcases Nat.eq_zero_or_pos n with h | h
    · subst h; decide
    · rw [nI_m1 h, nI_toInt (by omega)]; omega
  have e : ((nI n - 1).toInt64 < x) = ((nI n).toInt64 ≤ x) := by
    rw [l_lt, l_le, Int32.toInt_toInt64, Int32.toInt_toInt64, e', nI_toInt hn]
    exact propext ⟨fun h => by omega, fun h => by omega⟩
  unfold fX6_isIn
  simp only [e]
  by_cases h1 : x < 0
  · simp [h1]
  · by_cases h2 : (nI n).toInt64 ≤ x <;> simp [h1, h2]
theorem HX.look0 (K : KE) (X : HX a M σ nk nf np pt vl vf vm) (hf : f < nf) (h19 : M.1 0 19 = nI f) (x : Int64) : ∃ y, fX0_looked K (hp a M) a 0 x = some y ∧ fX6_qOf σ 0 x (nI f) = some y := by
  have b := X.bk
  have e0 := SameH.refl M
  obtain ⟨fa, ia, f1, f2, f3, f4⟩ := X.film K hf
  simp only [fX0_looked, if_true, x_rcv, bsm, X.kinds e0, fX6_qOf, X.kindM, isIn_o (show nk < 2 ^ 31 by omega)]
  by_cases z1 : x < 0
  · exact ⟨0, by rw [if_pos z1], by rw [if_pos (Or.inl z1)]; rfl⟩
  by_cases z2 : (nI nk).toInt64 ≤ x
  · exact ⟨0, by rw [if_neg z1, if_pos z2], by rw [if_pos (Or.inr z2)]; rfl⟩
  have y1 := z1
  have y2 := z2
  rw [l_lt, k0l] at y1
  rw [l_le, Int32.toInt_toInt64, nI_toInt (by omega)] at y2
  obtain ⟨k, hk⟩ : ∃ k : Nat, x.toInt = k := ⟨x.toInt.toNat, by omega⟩
  have ek : x.toInt32 = nI k := l_of hk (by omega)
  refine ⟨(σ.2.2.1 43 (48 + 6 * f + k)).toInt64, ?_, ?_⟩
  · rw [if_neg z1, if_neg z2]
    simp only [x_g19, h19, bsm, f1 M e0, f3 M e0, ek, f4 M k e0 (by omega)]
  · rw [if_neg (fun q => q.elim z1 z2)]
    simp only [bsm, if_neg n01, fX6_weightOf, ek, ki48, ki6, nI_mul, nI_add, tg43 (i := 48 + 6 * f + k) (by omega)]
theorem qp6 (x : Int32) : fX6_qPartOf σ (nI 6) x = some x.toInt64 := by
  unfold fX6_qPartOf
  rw [if_neg (by decide), if_neg (by decide), if_neg (by decide), if_neg (by decide), if_neg (by decide), if_neg (by decide), if_pos (by decide)]
theorem qp7 {x v : Int32} (h : fX6_worthOf σ (σ.1 56) x = some v) : fX6_qPartOf σ (nI 7) x = some v.toInt64 := by
  unfold fX6_qPartOf
  rw [if_neg (by decide), if_neg (by decide), if_neg (by decide), if_neg (by decide), if_neg (by decide), if_neg (by decide), if_neg (by decide), h]
  rfl
theorem p_ask0 {v : Int64} : sCL (hp a M) (some (a + 14)) 1 (0 : Int32) v = some (hp a (mL M 14 0 v)) := p_ask (k := 0) (by omega)
theorem p_ask3 {v : Int64} : sCL (hp a M) (some (a + 14)) 1 (3 : Int32) v = some (hp a (mL M 14 3 v)) := p_ask (k := 3) (by omega)
theorem p_ask4 {v : Int64} : sCL (hp a M) (some (a + 14)) 1 (4 : Int32) v = some (hp a (mL M 14 4 v)) := p_ask (k := 4) (by omega)
theorem p_ask5 {v : Int64} : sCL (hp a M) (some (a + 14)) 1 (5 : Int32) v = some (hp a (mL M 14 5 v)) := p_ask (k := 5) (by omega)
theorem p_ask6 {v : Int64} : sCL (hp a M) (some (a + 14)) 1 (6 : Int32) v = some (hp a (mL M 14 6 v)) := p_ask (k := 6) (by omega)
theorem p_ask7 {v : Int64} : sCL (hp a M) (some (a + 14)) 1 (7 : Int32) v = some (hp a (mL M 14 7 v)) := p_ask (k := 7) (by omega)
/-- one film -/
theorem ask_step (X : HX a M σ nk nf np pt vl vf vm) (S : SR M 0 (σ.2.2.1 54) np pt hr) (hf : f < nf) (hp' : p < np) (hwq : wq ≤ np) (h19 : M.1 0 19 = nI f) (h56 : σ.1 56 = nI p) (h57 : σ.1 57 = nI wq) (h92 : σ.1 92 = nI cs.length) (h91 : OtO (σ.2.2.1 91) cs) (hl : cs.length ≤ 1602) (hc : ∀ c, c ∈ cs → okd 3 c) (hw6 : w < 6) (hy : ¬ inB a qa) (DQ : M.2.2.2.1 qa = some (qO w t u ff hs)) (HQ : (w < 3 ∧ t = some r ∧ TeV 64 K a (qa + 1) hi D0 r cs) ∨ (3 ≤ w ∧ u = some r ∧ TrV 64 K a (qa + 1) hi D0 r cs)) (hD : ∀ y, qa + 1 ≤ y → M.2.2.2.1 y = D0 y) (J : JR w f ff hs A nw) (h99 : σ.2.1 99 = A) (h100 : σ.1 100 = nI nw) :
    ∃ M' σ' ff' hs' A', (∀ n, fX0_ask_78 K a (n + 1) (hp a M) (nI p) (some qa) (nI wq) = fX0_ask_78 K a n (hp a M') (nI p) (some qa) (nI wq)) ∧ (∀ n, fX6_ask_203 (n + 1) σ (nI w) (nI f) = fX6_ask_203 n σ' (nI w) (nI (f + 1))) ∧ M'.1 0 19 = nI (f + 1) ∧ M'.2.2.2.1 qa = some (qO w t u ff' hs') ∧ QMf qa M M' ∧ QSf σ σ' ∧ σ'.2.1 99 = A' ∧ σ'.1 100 = 0 ∧ JR w (f + 1) ff' hs' A' 0 := by
  have b := X.bk
  obtain ⟨fa, ia, f1, f2, f3, f4⟩ := X.film K hf
  obtain ⟨s, s1, s2, o1, o2, o3⟩ := X.over K (i := 0) (by omega) (show wq < 6 by omega) hf S
  obtain ⟨⟨a1, a2, a3, a4⟩, -, t1, t2, t3⟩ := id S
  have vq := (X.v.2.2.2.1 f hf).2
  obtain ⟨M7, hM7⟩ : ∃ M7, M7 = mL (mL (mL (mL (mL (mL M 14 0 (nI (hr % 24)).toInt64) 14 3 (nI (pt f)).toInt64) 14 4 (nI s).toInt64) 14 5 (sv σ nk wq f).toInt64) 14 6 (nI f).toInt64) 14 7 (wv σ nk p f).toInt64 := ⟨_, rfl⟩
  have m71 : M7.1 = M.1 := by rw [hM7]; rfl
  have m7r : M7.2.2 = M.2.2 := by rw [hM7]; rfl
  have e7 : SameH M M7 := ⟨by rw [m7r], by rw [m7r]⟩
  have X7 : HX a M7 σ nk nf np pt vl vf vm := X.to e7 (UpE.refl σ).up
  have lk7 := fun x => X7.look0 K hf (by rw [m71]; exact h19) x
  have D7 : M7.2.2.2.1 qa = some (qO w t u ff hs) := by rw [e7.2]; exact DQ
  have hv7 : ∀ y x, qa + 1 ≤ y → y < hi → D0 y = some x → M7.2.2.2.1 y = some x := fun y x h1 _ h2 => by rw [e7.2, hD y h1]; exact h2
  have lok : lkOK K a M7 cs := Or.inr fun x => by
    obtain ⟨y, y1, -⟩ := lk7 x
    exact ⟨y, y1⟩
  have seenC : ∀ M' : CM, M'.1 = M.1 → M'.1 (sbo 0 + (9 + wq)) f = nI s := fun M' e => by rw [e, (t2 wq f (by omega) (by omega)).1, s2]
  have scC : ∀ M' : CM, SameH M M' → M'.1 = M.1 → fX5_score K (hp a M') (a + sbo 0) (nI wq) (nI f) = some (sv σ nk wq f) := fun M' e e2 => X.scoreC (by omega) (by omega) hf e (fun k hk => by rw [e2]; exact (t1 wq k (by omega) hk).1)
  have kk := nI_ge hf (show nf < 2 ^ 31 by omega)
  have z0 : (0 : Nat) < 22 := by omega
  -- the component up to the meeting
  have cbase : ∀ n, fX0_ask_78 K a (n + 1) (hp a M) (nI p) (some qa) (nI wq) = (fX21_meets K (hp a M7) qa (nI f) (some (a + 13))).bind fun x47 => (gI K x47 (some a) 0 19).bind fun v48 => (pV x47 (some a) 0 19 (.int (v48 + (1 : Int32)))).bind fun h49 => fX0_ask_78 K a n h49 (nI p) (some qa) (nI wq) := fun n => by
    have rq := fun M' : CM => fun h : M'.2.2.2.1 = M.2.2.2.1 => d_rcv (K := K) (a := a) (M := M') hy (by rw [h]; exact DQ)
    simp only [fX0_ask_78, x_g19, h19, x_rcv, bsm, X.films (SameH.refl M), if_neg kk, x_g7, m_g13, x_g9, s_g0 z0, a1, (mod24 (show hr < 2 ^ 31 by omega)).1, p_ask0, mL_1, f1 (mL M 14 0 (nI (hr % 24)).toInt64) ⟨rfl, rfl⟩, f2 (mL M 14 0 (nI (hr % 24)).toInt64) ⟨rfl, rfl⟩, vq, p_ask3, s_g4 z0, s_seenO z0 (show wq < 6 by omega), c_seen z0 (show wq < 6 by omega) (show f < 8 by omega), seenC M rfl, p_ask4, s_rcv z0, scC (mL (mL (mL M 14 0 (nI (hr % 24)).toInt64) 14 3 (nI (pt f)).toInt64) 14 4 (nI s).toInt64) ⟨rfl, rfl⟩ rfl, p_ask5, p_ask6, X.worthC (K := K) (M' := mL (mL (mL (mL (mL M 14 0 (nI (hr % 24)).toInt64) 14 3 (nI (pt f)).toInt64) 14 4 (nI s).toInt64) 14 5 (sv σ nk wq f).toInt64) 14 6 (nI f).toInt64) hp' hf ⟨rfl, rfl⟩, p_ask7, ← hM7, m71, rq M7 e7.2]
  -- what the codes tell
  have hpq : ∀ σ', QF σ σ' → ∀ j, j = 0 ∨ 3 ≤ j ∧ j < 8 → ∃ x, fX6_qPartOf σ' (nI j) (nI f) = some x ∧ clp x = clp (M7.2.1 14 j) := fun σ' Q j hj => by
    have q1 : σ'.2.2.1 = σ.2.2.1 := Q.1
    have q2 : σ'.1 57 = nI wq := by rw [Q.2.2.1 57 (by omega), h57]
    have q3 : σ'.1 56 = nI p := by rw [Q.2.2.1 56 (by omega), h56]
    have up := Q.sf.up
    refine ⟨M7.2.1 14 j, ?_, rfl⟩
    rw [hM7]
    simp only [mL_2, true_and]
    rcases (show j = 0 ∨ j = 3 ∨ j = 4 ∨ j = 5 ∨ j = 6 ∨ j = 7 by omega) with h | h | h | h | h | h <;> subst h
    · exact qp0 (by rw [q1]; exact a3) _
    · refine qp3 ?_
      simp only [fX6_partsOf, ki8, nI_add, tg42 (i := 8 + f) (by omega), q1, vq, bsm]
    · refine qp4 ?_
      simp only [q2, fX6_seenBy, fX6_seenAt, ki2, ki14, ki6, nI_mul, nI_add, tg54 (i := 2 + 14 * wq + 6 + f) (by omega), q1, s2, bsm]
    · refine qp5 ?_
      rw [q2, (X.to (SameH.refl M) up.up).scoreT (show wq < 6 by omega) hf, sv_c (σ := σ) (σ' := σ') (by rw [q1]) (fun k _ => by rw [q1]) (by omega)]
    · exact qp6 _
    · refine qp7 ?_
      rw [q3, (X.to (SameH.refl M) up.up).worthT hp' hf, wv_c up]
  have hqq : ∀ σ', QF σ σ' → ∀ x, ∃ y, fX6_qOf σ' 0 x (nI f) = some y ∧ clp y = lkd K a M7 x := fun σ' Q x => by
    obtain ⟨y, y1, y2⟩ := (X7.to (SameH.refl M7) Q.sf.up.up).look0 K hf (by rw [m71]; exact h19) x
    exact ⟨y, y2, by rw [lkd, y1]; rfl⟩
  have k203 : ∀ n σ1 σ2 v, fX6_qTold σ (nI f) = some (σ1, v) → fX6_qTakes σ1 (nI w) v (nI f) = some σ2 → fX6_ask_203 (n + 1) σ (nI w) (nI f) = fX6_ask_203 n σ2 (nI w) (nI (f + 1)) := fun n σ1 σ2 v g1 g2 => by
    simp only [fX6_ask_203, X.filmM, bsm, if_neg kk, g1, g2, nI_1]
  have fin : ∀ (M8 : CM) (ff' : Int64) (hs' : Nat), M8 = mD M7 qa (some (qO w t u ff' hs')) → fX21_meets K (hp a M7) qa (nI f) (some (a + 13)) = some (hp a M8) → (∀ n, fX0_ask_78 K a (n + 1) (hp a M) (nI p) (some qa) (nI wq) = fX0_ask_78 K a n (hp a (mI M8 0 19 (nI (f + 1)))) (nI p) (some qa) (nI wq)) ∧ (mI M8 0 19 (nI (f + 1))).1 0 19 = nI (f + 1) ∧ (mI M8 0 19 (nI (f + 1))).2.2.2.1 qa = some (qO w t u ff' hs') ∧ QMf qa M (mI M8 0 19 (nI (f + 1))) := fun M8 ff' hs' h8 g => by
    have m81 : M8.1 = M.1 := by rw [h8]; exact m71
    refine ⟨fun n => ?_, mI_s, by rw [h8]; exact D_s, fun o ho => ?_, fun k hk => ?_, fun o ho => ?_, ?_, fun y hy => ?_, ?_⟩
    · rw [cbase n, g]
      simp only [bsm, x_g19, m81, h19, nI_1, x_p19]
    · rw [mI_o ho, m81]
    · rw [mI_n (Or.inr hk), m81]
    · rw [h8, hM7]
      show (mL _ _ _ _).2.1 o = _
      rw [mL_o ho, mL_o ho, mL_o ho, mL_o ho, mL_o ho, mL_o ho]
    · rw [h8]
      show M7.2.2.1 = _
      rw [m7r]
    · rw [h8]
      show (mD M7 qa _).2.2.2.1 y = _
      rw [D_n hy, m7r]
    · rw [h8]
      show M7.2.2.2.2 = _
      rw [m7r]
  rcases HQ with ⟨hw3, ht, T⟩ | ⟨hw3, hu, T⟩
  · obtain ⟨bb, b1, b2, b3⟩ := T M7 hv7 13 (Or.inr rfl) lok
    obtain ⟨σ1, c1, c2⟩ := qTold_ok (f := f) b3 hl h92 h91 hc hpq hqq
    rw [ht] at D7
    obtain ⟨ff', hs', A', d1, d2, d3⟩ := stepT (K := K) (show f < 100 by omega) hw3 b1 hy D7 b2 J
    obtain ⟨σ2, g1, g2, g3, g4⟩ := d2 σ1 (by rw [c2.2.1, h99])
    obtain ⟨i1, i2, i3, i4⟩ := fin _ ff' hs' (by rw [ht]) d1
    exact ⟨_, σ2, ff', hs', A', i1, fun n => k203 n σ1 σ2 _ c1 g1, i2, i3, i4, c2.sf.tr g4.sf, g2, g3, d3⟩
  · obtain ⟨v, b2, b3, -⟩ := T M7 hv7 13 (Or.inr rfl) lok
    obtain ⟨σ1, c1, c2⟩ := qTold_ok (f := f) b3 hl h92 h91 hc hpq hqq
    rw [hu] at D7
    obtain ⟨ff', hs', A', d1, d2, d3⟩ := stepS (K := K) hw3 hw6 hy D7 b2 J (nI f)
    obtain ⟨σ2, g1, g2, g3, g4⟩ := d2 σ1 (by rw [c2.2.1, h99]) (by rw [c2.2.2.1 100 (by omega), h100])
    obtain ⟨i1, i2, i3, i4⟩ := fin _ ff' hs' (by rw [hu]) d1
    exact ⟨_, σ2, ff', hs', A', i1, fun n => k203 n σ1 σ2 _ c1 g1, i2, i3, i4, c2.sf.tr g4.sf, g2, g3, d3⟩
/-- all films -/
theorem ask_loop (hX : ∀ M' σ', QMf qa M M' → QSf σ σ' → HX a M' σ' nk nf np pt vl vf vm) (S : SR M 0 (σ.2.2.1 54) np pt hr) (hp' : p < np) (hwq : wq ≤ np) (h19 : M.1 0 19 = nI 0) (h56 : σ.1 56 = nI p) (h57 : σ.1 57 = nI wq) (h92 : σ.1 92 = nI cs.length) (h91 : OtO (σ.2.2.1 91) cs) (hl : cs.length ≤ 1602) (hc : ∀ c, c ∈ cs → okd 3 c) (hw6 : w < 6) (hy : ¬ inB a qa) (DQ : M.2.2.2.1 qa = some (qO w t u ff hs)) (HQ : (w < 3 ∧ t = some r ∧ TeV 64 K a (qa + 1) hi M.2.2.2.1 r cs) ∨ (3 ≤ w ∧ u = some r ∧ TrV 64 K a (qa + 1) hi M.2.2.2.1 r cs)) (J : JR w 0 ff hs A nw) (h99 : σ.2.1 99 = A) (h100 : σ.1 100 = nI nw) :
    ∃ M' σ' v, fX0_ask_78 K a FU (hp a M) (nI p) (some qa) (nI wq) = some (hp a M', v) ∧ fX6_ask_203 FU σ (nI w) 0 = some (σ', v) ∧ QMf qa M M' ∧ QSf σ σ' := by
  have b := (hX M σ (QMf.refl qa M) (QSf.refl σ)).bk
  refine lp2z (F := fun n (h : HS) (_ : Int32) => fX0_ask_78 K a n h (nI p) (some qa) (nI wq)) (G := fun n (s : MS) k => fX6_ask_203 n s (nI w) k) (N := nf) (x := hp a M) (y := σ)
    (I := fun k h s => ∃ M' ff' hs' A' nw', h = hp a M' ∧ QMf qa M M' ∧ QSf σ s ∧ M'.1 0 19 = nI k ∧ M'.2.2.2.1 qa = some (qO w t u ff' hs') ∧ JR w k ff' hs' A' nw' ∧ s.2.1 99 = A' ∧ s.1 100 = nI nw')
    (P := fun r1 r2 => ∃ M' σ' v, r1 = some (hp a M', v) ∧ r2 = some (σ', v) ∧ QMf qa M M' ∧ QSf σ σ') (by omega) ⟨M, ff, hs, A, nw, rfl, QMf.refl qa M, QSf.refl σ, h19, DQ, J, h99, h100⟩ ?_ ?_
  · rintro n m h s k hk ⟨M1, ff1, hs1, A1, nw1, rfl, q1, q2, q3, q4, q5, q6, q7⟩
    have S1 : SR M1 0 (s.2.2.1 54) np pt hr := S.m (fun t _ => q1.1 _ (by have := sbo_c 0; omega)) (fun j _ => by rw [q2.1]) b.2.2
    obtain ⟨M2, σ2, ff2, hs2, A2, e1, e2, e3, e4, e5, e6, e7, e8, e9⟩ := ask_step (K := K) (D0 := M.2.2.2.1) (hX M1 s q1 q2) S1 hk hp' hwq q3 (by rw [q2.2.1 56 (by omega) (by omega)]; exact h56) (by rw [q2.2.1 57 (by omega) (by omega)]; exact h57) (by rw [q2.2.1 92 (by omega) (by omega)]; exact h92) (by rw [q2.1]; exact h91) hl hc hw6 hy q4 HQ (fun y hy => q1.2.2.2.2.1 y (by omega)) q5 q6 q7
    exact Or.inl ⟨hp a M2, σ2, ⟨M2, ff2, hs2, A2, 0, rfl, q1.tr e5, q2.tr e6, e3, e4, e9, e7, e8⟩, e1 n, e2 m⟩
  · rintro n m h s ⟨M1, ff1, hs1, A1, nw1, rfl, q1, q2, q3, q4, q5, q6, q7⟩
    have X1 := hX M1 s q1 q2
    have kk := nI_le (Nat.le_refl nf) (show nf < 2 ^ 31 by omega)
    refine ⟨M1, s, A1, ?_, ?_, q1, q2⟩
    · simp only [fX0_ask_78, x_g19, q3, x_rcv, bsm, X1.films (SameH.refl M1), if_pos kk, d_rcv (K := K) hy q4, answer_o hy hw6 q4 q5]
    · simp only [fX6_ask_203, X1.filmM, bsm, if_pos kk, q6]
end PAS

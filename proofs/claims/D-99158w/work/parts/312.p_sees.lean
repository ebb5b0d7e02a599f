/-! PLAIN LAW, one sees a part of a film: both sides -/
set_option maxRecDepth 100000
def TS (σ σ' : MS) : Prop := (∀ k, k ≠ 53 → k ≠ 57 → k ≠ 58 → k ≠ 59 → k ≠ 98 → σ'.1 k = σ.1 k) ∧ σ'.2.1 = σ.2.1 ∧ (∀ k, k ≠ 54 → σ'.2.2.1 k = σ.2.2.1 k) ∧ (∀ k, k ≠ 97 → σ'.2.2.2 k = σ.2.2.2 k)
section PSE
variable {K : KE} {a i j k f p w n o s : Nat} {M M' M1 M2 : CM} {σ σ' σ1 σ2 : MS} {nk nf np hr kp : Nat} {pt : Nat → Nat} {π : Nat → Nat} {vl vf vm : Option Nat} {g : Nat → Int32}
theorem TS.refl (σ : MS) : TS σ σ := ⟨fun _ _ _ _ _ _ => rfl, rfl, fun _ _ => rfl, fun _ _ => rfl⟩
theorem TS.tr (h : TS σ σ1) (g : TS σ1 σ2) : TS σ σ2 := ⟨fun k a b c d e => (g.1 k a b c d e).trans (h.1 k a b c d e), g.2.1.trans h.2.1, fun k a => (g.2.2.1 k a).trans (h.2.2.1 k a), fun k a => (g.2.2.2 k a).trans (h.2.2.2 k a)⟩
theorem TS.og (h : TG σ σ') : TS σ σ' := ⟨h.1, h.2.1, h.2.2.1, h.2.2.2.2⟩
theorem TS.ok (h : TK σ σ') : TS σ σ' := ⟨fun k _ _ _ _ _ => by rw [h.1], h.2.1, h.2.2.1, fun k _ => by rw [h.2.2.2.2]⟩
theorem TS.sA {v : Int32} (h : TS σ σ') : TS σ (sA σ' 54 j v) := ⟨h.1, h.2.1, fun k q => by rw [sA_n q]; exact h.2.2.1 k q, h.2.2.2⟩
theorem TS.tf (h : TS σ σ') : TF σ σ' := ⟨h.1, h.2.1, fun k q _ _ => h.2.2.1 k q, fun k _ q => h.2.2.2 k q⟩
theorem TS.up (h : TS σ σ') : UpE σ σ' := h.tf.up
/-- what is paid for pressing -/
def byV (σ : MS) (nk p f m : Nat) : Int32 := wv σ nk p f - (if m / 2 ^ p % 2 = 0 then 0 else σ.2.2.1 47 6)
theorem HX.byT (X : HX a M σ nk nf np pt vl vf vm) (hp' : p < np) (hf : f < nf) {m : Nat} (hd : fX6_doesPress σ (nI p) = some (nI (m / 2 ^ p % 2))) : fX6_pleasedBy σ (nI p) (nI f) = some (byV σ nk p f m) := by
  simp only [fX6_pleasedBy, X.worthT hp' hf, hd, bsm, fX6_pleasedBy_25, ki6, tg47 (i := 6) (by omega), byV]
  rcases Nat.mod_two_eq_zero_or_one (m / 2 ^ p) with e | e <;> rw [e]
  · rfl
  · rw [if_neg (by decide), if_neg (by decide)]
theorem subI {x y : Nat} (hx : x < 2 ^ 30) (hy : y < 2 ^ 30) : (nI x - nI y).toInt = (x : Int) - y := by
  rw [Int32.toInt_sub, nI_toInt (by omega), nI_toInt (by omega)]
  exact Int.bmod_eq_of_le (by omega) (by omega)
theorem HX.byB (X : HX a M σ nk nf np pt vl vf vm) (hp' : p < np) (hf : f < nf) (m : Nat) : -99 ≤ (byV σ nk p f m).toInt ∧ (byV σ nk p f m).toInt ≤ 486 := by
  obtain ⟨q, q1, q2⟩ := X.worthB hp' hf
  obtain ⟨-, -, -, -, -, -, -, -, -, ⟨t, t1, t2⟩, -⟩ := X.v
  unfold byV
  rw [q2, t2]
  split
  · have e : nI q - 0 = nI q := Int32.sub_zero _
    rw [e, nI_toInt (by omega)]
    omega
  · rw [subI (by omega) (by omega)]
    omega
theorem min_seen {c : Nat} (hc : c ≤ 9999) (K : KE) (h : HS) : fJ12_min K h (9999 : Int32) (nI c + 1) = some (nI (if c = 9999 then 9999 else c + 1)) := by
  unfold fJ12_min
  by_cases h9 : c = 9999
  · subst h9
    rw [if_neg (by decide), if_pos rfl]
    rfl
  · rw [nI_1, if_neg h9]
    by_cases h8 : c + 1 = 9999
    · rw [h8, if_neg (by decide)]
      rfl
    · rw [if_pos (by rw [ki9999, nI_ltE (by omega) (by omega)]; omega)]
theorem has_seen {c : Nat} (hc : c ≤ 9999) (hp' : p < 5) (h : σ.2.2.1 54 (86 + 2 * p + 1) = nI c) : ∃ σ', fX6_hasSeen σ (nI p) = some σ' ∧ σ'.2.2.1 54 = upd (σ.2.2.1 54) (86 + 2 * p + 1) (nI (if c = 9999 then 9999 else c + 1)) ∧ σ'.1 = σ.1 ∧ σ'.2.1 = σ.2.1 ∧ (∀ k, k ≠ 54 → σ'.2.2.1 k = σ.2.2.1 k) ∧ σ'.2.2.2 = σ.2.2.2 := by
  have e1 : aI σ 54 ((86 : Int32) + (2 : Int32) * nI p + (1 : Int32)) = some (nI c) := by
    rw [ki86, ki2, nI_mul, nI_add, nI_1, tg54 (by omega), h]
  by_cases h9 : c = 9999
  · subst h9
    refine ⟨σ, ?_, ?_, rfl, rfl, fun _ _ => rfl, rfl⟩
    · have kk : (9999 : Int32) ≤ nI 9999 := by decide
      simp only [fX6_hasSeen, e1, bsm, if_pos kk]
    · funext j
      unfold upd
      split
      · rename_i hj; rw [hj, h, if_pos rfl]
      · rfl
  · rw [if_neg h9]
    refine ⟨sA σ 54 (86 + 2 * p + 1) (nI (c + 1)), ?_, sA_f, rfl, rfl, fun k q => sA_n q, rfl⟩
    have kk : ¬ (9999 : Int32) ≤ nI c := nI_ge (b := 9999) (show c < 9999 by omega) (by omega)
    simp only [fX6_hasSeen, e1, bsm, if_neg kk]
    simp only [ki86, ki2, nI_mul, nI_add, nI_1, tp54 (i := 86 + 2 * p + 1) (by omega), bsm]
theorem sees_ok (X : HX a M σ nk nf np pt vl vf vm) (H : HTs K a M.2.2.2.1 σ vl vf vm) (hi : i < 22) (hp' : p < np) (hf : f < nf) (S : SR M i (σ.2.2.1 54) np pt hr) (R : RS a M i π kp) (hR : σ.1 60 = 0 → KR M i (σ.2.2.1 54) π kp) (hw : w < 6) (hpr : fX6_profileOf σ (nI p) = some (nI w)) (hs : σ.2.2.1 54 (2 + 14 * w + 6 + f) = nI s) (hs2 : s < pt f) :
    ∃ M' v σ1 σ2 σ3 π' kp', fX5_sees K (hp a M) (a + sbo i) (nI p) (nI f) = some (hp a M', v) ∧ fX6_partSeen σ (nI w) (nI f) = some σ1 ∧ fX6_hasSeen σ1 (nI p) = some σ2 ∧ fX6_isKept σ2 (nI p) (nI f) = some σ3 ∧ SR M' i (σ3.2.2.1 54) np pt hr ∧ RS a M' i π' kp' ∧ (σ.1 60 = 0 → KR M' i (σ3.2.2.1 54) π' kp') ∧ fX6_pleasedBy σ (nI p) (nI f) = some v ∧ fX6_pleasedBy σ3 (nI p) (nI f) = some v ∧ MF i M M' ∧ M'.1 (sbo i + 58) = M.1 (sbo i + 58) ∧ M'.1 (sbo i) 9 = M.1 (sbo i) 9 ∧ (∀ q, M'.2.1 (sbo i + 57) q = if q = p then M.2.1 (sbo i + 57) p + v.toInt64 else M.2.1 (sbo i + 57) q) ∧ TS σ σ3 ∧ (σ.1 60 ≠ 0 → T96 σ σ3) ∧ -99 ≤ v.toInt ∧ v.toInt ≤ 486 ∧ TG σ σ1 ∧ (∀ j, j < 96 → j ≠ 86 + 2 * p + 1 → σ1.2.2.1 54 j = σ3.2.2.1 54 j) ∧ ∃ c, c ≤ 9999 ∧ σ1.2.2.1 54 (86 + 2 * p + 1) = nI c := by
  have b := X.bk
  obtain ⟨⟨a1, a2, a3, a4⟩, -, -⟩ := id S
  obtain ⟨m, m1, m2, m3, w', w1, w2, w3, w4⟩ := S.prof (a := a) K hi b.2.2 hp'
  have hm : m < 2 ^ 31 := Nat.lt_of_lt_of_le m1 (Nat.pow_le_pow_right (by omega) (by omega))
  have hww : w' = w := by
    rw [w4] at hpr
    have := Option.some.inj hpr
    rw [nI_eqE (by omega) (by omega)] at this
    exact this
  subst hww
  obtain ⟨M1, π', kp', t1, t2, t3, t4⟩ := tells_c (K := K) hi R a1 a4 (nI p) (nI f)
  have F1 : MF i M M1 := t3.mf
  have X1 := X.to (F1.same hi) (UpE.refl σ).up
  have H1 : HTs K a M1.2.2.2.1 σ vl vf vm := by rw [(F1.same hi).2]; exact H
  have S1 : SR M1 i (σ.2.2.1 54) np pt hr := S.mt t3 b.2.2
  obtain ⟨M2, σ1, l1, l2, l3, l4, l5⟩ := learns_ok (K := K) X1 H1 hi hw hf S1 hs hs2
  obtain ⟨-, -, -, -, l6⟩ := id l3
  obtain ⟨c0, c, c01, c1, l7, c2, c3⟩ := l6 p (by omega)
  obtain ⟨σ2, d2, d4, d5, d6, d7, d8⟩ := has_seen c1 (show p < 5 by omega) c2
  obtain ⟨c', hc'⟩ : ∃ c', c' = (if c0 = 9999 then 9999 else c0 + 1) := ⟨_, rfl⟩
  have d3 : ∀ K h, fJ12_min K h (9999 : Int32) (nI c0 + 1) = some (nI c') := fun K h => by rw [min_seen c01, hc']
  have S3 := l3.setW (p := p) (n := c') (n' := if c = 9999 then 9999 else c + 1) (by omega) (by rw [hc']; split <;> omega) (by split <;> omega) (fun h => by rw [hc', c3 h]) b.2.2
  rw [← d4] at S3
  have TS2 : TS σ σ2 := (TS.og l5).tr ⟨fun k _ _ _ _ _ => by rw [d5], d6, d7, fun k _ => by rw [d8]⟩
  have G2 : ∀ j, 96 ≤ j → σ2.2.2.1 54 j = σ.2.2.1 54 j := fun j hj => by rw [d4, pk_un (by omega), l5.2.2.2.1 j (by omega)]
  have e60 : σ2.1 60 = σ.1 60 := TS2.1 60 (by omega) (by omega) (by omega) (by omega) (by omega)
  have key : ∃ σ3, fX6_isKept σ2 (nI p) (nI f) = some σ3 ∧ TK σ2 σ3 ∧ (σ.1 60 = 0 → KR M1 i (σ3.2.2.1 54) π' kp') ∧ (σ.1 60 ≠ 0 → σ3 = σ2) := by
    by_cases h60 : σ.1 60 = 0
    · obtain ⟨q1, q2⟩ := hR h60
      obtain ⟨σ3, u1, u2, u3⟩ := t4 σ2 ⟨by rw [G2 96 (by omega)]; exact q1, fun k j hk hj => by rw [G2 _ (by omega)]; exact q2 k j hk hj⟩ (S3.1.2.1) (S3.1.2.2.1) (by rw [e60]; exact h60)
      exact ⟨σ3, u1, u2, fun _ => u3, fun h => absurd h60 h⟩
    · refine ⟨σ2, ?_, TK.refl σ2, fun h => absurd h h60, fun _ => rfl⟩
      simp only [fX6_isKept, e60, if_neg h60]
  obtain ⟨σ3, u1, u2, u3, u4⟩ := key
  have TS3 : TS σ σ3 := TS2.tr (TS.ok u2)
  have S4 : SR (mI M2 (sbo i + 15) p (nI c')) i (σ3.2.2.1 54) np pt hr := S3.m (fun _ _ => rfl) (fun j hj => u2.2.2.2.1 j hj) b.2.2
  have F2 : MF i M M2 := F1.tr l4.mf
  have F3 : MF i M (mI M2 (sbo i + 15) p (nI c')) := F2.mI (by omega) (by omega)
  have e57 : M2.2.1 (sbo i + 57) = M.2.1 (sbo i + 57) := by
    rw [l4.2.1 _ (by have := sbo_lt hi; omega), t3.2.1]
  have ep : M2.1 (sbo i) 1 = nI m := by rw [l4.1 _ (by omega), t3.1 _ _ (by omega) (by omega)]; exact m2
  have wo : fX0_worthOf K (hp a (mI M2 (sbo i + 15) p (nI c'))) a (nI p) (nI f) = some (wv σ nk p f) := X.worthC hp' hf (F3.same hi)
  obtain ⟨ha, g0, g2, g3, g4, g5, g9, g10, g11⟩ := X.set K
  have pr2 : fX5_profile K (hp a M1) (a + sbo i) (nI p) = some (nI w') := by
    obtain ⟨m', -, -, x3, w'', -, x6, x4, x5⟩ := S1.prof (a := a) K hi b.2.2 hp'
    rw [w4] at x5
    have := Option.some.inj x5
    rw [nI_eqE (by omega) (by omega)] at this
    rw [x4, this]
  have pT3 : fX6_doesPress σ3 (nI p) = some (nI (m / 2 ^ p % 2)) := by
    obtain ⟨m', y1, y2, y3, -⟩ := S4.prof (a := a) K hi b.2.2 hp'
    rw [mI_n (by omega), ep] at y2
    have hm' : m' < 2 ^ 31 := Nat.lt_of_lt_of_le y1 (Nat.pow_le_pow_right (by omega) (by omega))
    rw [nI_eqE hm hm'] at y2
    rw [y3, y2]
  have X3 := X.to (F3.same hi) (TS3.up.up)
  have hby : byV σ3 nk p f m = byV σ nk p f m := by
    unfold byV
    rw [wv_c TS3.up, TS3.up.1 47 (by simp)]
  refine ⟨mL (mI M2 (sbo i + 15) p (nI c')) (sbo i + 57) p (M2.2.1 (sbo i + 57) p + (byV σ nk p f m).toInt64), byV σ nk p f m, σ1, σ2, σ3, π', kp', ?_, l2, d2, u1, S4.m (fun _ _ => rfl) (fun _ _ => rfl) b.2.2, ?_, fun h60 => ?_, X.byT hp' hf m3, by rw [X3.byT hp' hf pT3, hby], F3.mL (by omega) (by omega), ?_, ?_, fun q => ?_, TS3, fun h60 j hj => ?_, (X.byB hp' hf m).1, (X.byB hp' hf m).2, l5, fun j hj hne => by rw [u2.2.2.2.1 j hj, d4, pk_un hne], c, c1, c2⟩
  · have c4 : M2.1 (sbo i + 15) p = nI c0 := l7
    have x1 : (mI M2 (sbo i + 15) p (nI c')).1 (sbo i) 1 = nI m := by rw [mI_n (by omega)]; exact ep
    have x2 : ∀ t : Int32, fX5_sees_70 K (a + sbo i) (hp a (mI M2 (sbo i + 15) p (nI c'))) (nI p) (wv σ nk p f) t = some (hp a (mL (mI M2 (sbo i + 15) p (nI c')) (sbo i + 57) p (M2.2.1 (sbo i + 57) p + (wv σ nk p f - t).toInt64)), wv σ nk p f - t) := fun t => by
      simp only [fX5_sees_70, s_g7 hi, c_pls hi (show p < 5 by omega), p_pls hi (show p < 5 by omega), bsm, mI_2]
    have x3 : fX5_sees K (hp a M) (a + sbo i) (nI p) (nI f) = (if nI (m / 2 ^ p % 2) = 0 then fX5_sees_70 K (a + sbo i) (hp a (mI M2 (sbo i + 15) p (nI c'))) (nI p) (wv σ nk p f) 0 else fX5_sees_70 K (a + sbo i) (hp a (mI M2 (sbo i + 15) p (nI c'))) (nI p) (wv σ nk p f) (σ.2.2.1 47 6)) := by
      simp only [fX5_sees, s_rcv hi, t1, bsm, pr2, l1, s_g5 hi, c_saw hi (show p < 5 by omega), c4, d3, p_saw hi (show p < 5 by omega), s_g10 hi, x_rcv, wo, s_g1 hi, x1, c_has K _ hm (show p < 31 by omega), x_g0, mI_2, g0 M2 (F2.same hi), g4 _ (F3.same hi)]
    rw [x3]
    unfold byV
    rcases Nat.mod_two_eq_zero_or_one (m / 2 ^ p) with e | e <;> rw [e]
    · rw [if_pos (by decide), x2, if_pos rfl]
    · rw [if_neg (by decide), x2, if_neg (by decide)]
  · obtain ⟨r1, r2, r3, r4⟩ := t2
    refine ⟨r1, ?_, fun k hk => ?_, r4⟩
    · show (mI M2 (sbo i + 15) p (nI c')).1 (sbo i) 2 = _
      rw [mI_n (by omega), l4.1 _ (by omega)]
      exact r2
    · show π' k < 40 ∧ M2.2.2.1 (sbo i + 16) k = _
      rw [l4.2.2]
      exact r3 k hk
  · obtain ⟨q1, q2⟩ := u3 h60
    refine ⟨q1, fun k j hk hj => ?_⟩
    show (mI M2 (sbo i + 15) p (nI c')).1 (sbo i + (17 + π' k)) j = _
    rw [mI_n (by omega), l4.1 _ (by omega)]
    exact q2 k j hk hj
  · show (mI M2 (sbo i + 15) p (nI c')).1 (sbo i + 58) = _
    rw [mI_o (by omega), l4.1 _ (by omega)]
    funext k
    exact t3.1 _ _ (by omega) (by omega)
  · show (mI M2 (sbo i + 15) p (nI c')).1 (sbo i) 9 = _
    rw [mI_n (by omega), l4.1 _ (by omega), t3.1 _ _ (by omega) (by omega)]
  · rw [mL_2]
    by_cases hq : q = p
    · rw [if_pos ⟨rfl, hq⟩, if_pos hq, e57]
    · rw [if_neg (by simp [hq]), if_neg hq, mI_2, e57]
  · rw [u4 h60, G2 j hj]
end PSE

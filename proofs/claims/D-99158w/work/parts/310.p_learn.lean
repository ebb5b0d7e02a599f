/-! PLAIN LAW, a part is seen: both sides -/
set_option maxRecDepth 100000
/-- only tastes, parts seen of State i and the moment may have changed -/
def MG (i : Nat) (M M' : CM) : Prop := (∀ o, (o < sbo i + 2 ∨ sbo i + 15 ≤ o) → M'.1 o = M.1 o) ∧ (∀ o, o ≠ 12 → M'.2.1 o = M.2.1 o) ∧ M'.2.2 = M.2.2
def TG (σ σ' : MS) : Prop := (∀ k, k ≠ 53 → k ≠ 57 → k ≠ 58 → k ≠ 59 → k ≠ 98 → σ'.1 k = σ.1 k) ∧ σ'.2.1 = σ.2.1 ∧ (∀ k, k ≠ 54 → σ'.2.2.1 k = σ.2.2.1 k) ∧ (∀ j, j < 2 ∨ 86 ≤ j → σ'.2.2.1 54 j = σ.2.2.1 54 j) ∧ (∀ k, k ≠ 97 → σ'.2.2.2 k = σ.2.2.2 k)
section PLN
variable {K : KE} {a i j k f p w n o : Nat} {M M' M1 M2 : CM} {σ σ' σ1 σ2 : MS} {nk nf np hr : Nat} {pt : Nat → Nat} {vl vf vm : Option Nat} {g : Nat → Int32}
theorem MG.refl (i : Nat) (M : CM) : MG i M M := ⟨fun _ _ => rfl, fun _ _ => rfl, rfl⟩
theorem MG.tr (h : MG i M M1) (g : MG i M1 M2) : MG i M M2 := ⟨fun o q => (g.1 o q).trans (h.1 o q), fun o q => (g.2.1 o q).trans (h.2.1 o q), g.2.2.trans h.2.2⟩
theorem MG.same (h : MG i M M') : SameH M M' := ⟨by rw [h.2.2], by rw [h.2.2]⟩
theorem MG.mo {v : Int64} (h : MG i M M') : MG i M (mL M' 12 k v) := ⟨h.1, fun q r => by rw [mL_o r]; exact h.2.1 q r, h.2.2⟩
theorem MG.mI {v : Int32} (h : MG i M M') (h1 : sbo i + 2 ≤ o) (h2 : o < sbo i + 15) : MG i M (mI M' o k v) := ⟨fun q hq => by rw [mI_o (by omega)]; exact h.1 q hq, h.2.1, h.2.2⟩
theorem MG.mf (h : MG i M M') : MF i M M' := ⟨fun o q => h.1 o (by omega), fun o _ r => h.2.1 o r, fun o _ => by rw [h.2.2], by rw [h.2.2]⟩
theorem TG.refl (σ : MS) : TG σ σ := ⟨fun _ _ _ _ _ _ => rfl, rfl, fun _ _ => rfl, fun _ _ => rfl, fun _ _ => rfl⟩
theorem TG.tr (h : TG σ σ1) (g : TG σ1 σ2) : TG σ σ2 := ⟨fun k a b c d e => (g.1 k a b c d e).trans (h.1 k a b c d e), g.2.1.trans h.2.1, fun k a => (g.2.2.1 k a).trans (h.2.2.1 k a), fun j q => (g.2.2.2.1 j q).trans (h.2.2.2.1 j q), fun k a => (g.2.2.2.2 k a).trans (h.2.2.2.2 k a)⟩
theorem TG.of (h : TV σ σ') : TG σ σ' := ⟨h.2.2.1, h.2.1, fun k _ => by rw [h.1], fun j _ => by rw [h.1], h.2.2.2⟩
theorem TG.sA {v : Int32} (h : TG σ σ') (h1 : 2 ≤ j) (h2 : j < 86) : TG σ (sA σ' 54 j v) := ⟨h.1, h.2.1, fun k q => by rw [sA_n q]; exact h.2.2.1 k q, fun q hq => by rw [sA_m (by omega)]; exact h.2.2.2.1 q hq, h.2.2.2.2⟩
theorem TG.tf (h : TG σ σ') : TF σ σ' := ⟨h.1, h.2.1, fun k q _ _ => h.2.2.1 k q, fun k _ q => h.2.2.2.2 k q⟩
theorem TG.up (h : TG σ σ') : UpS σ σ' := h.tf.up.up
theorem sA_f {v : Int32} : (sA σ k j v).2.2.1 k = upd (σ.2.2.1 k) j v := by simp [sA, va_up]
theorem SR.setT (h : SR M i g np pt hr) (hw : w < 6) (hk : k < 6) (hn : n ≤ 999) (hq : np ≤ 5) : SR (mI M (sbo i + (2 + w)) k (nI n)) i (upd g (2 + 14 * w + k) (nI n)) np pt hr := by
  obtain ⟨⟨a1, a2, a3, a4⟩, ⟨m, m1, m2, m3⟩, b, c, d⟩ := h
  refine ⟨⟨by rw [mI_n (by omega)]; exact a1, by rw [pk_un (by omega)]; exact a2, by rw [pk_un (by omega)]; exact a3, a4⟩, ⟨m, m1, by rw [mI_n (by omega)]; exact m2, fun p hp => by rw [pk_un (by omega)]; exact m3 p hp⟩, fun w' k' hw' hk' => ?_, fun w' f' hw' hf' => ?_, fun p hp => ?_⟩
  · by_cases e : w' = w ∧ k' = k
    · obtain ⟨rfl, rfl⟩ := e
      rw [mI_s, pk_us]
      exact ⟨rfl, n, hn, rfl⟩
    · rw [mI_n (by omega), pk_un (by omega)]
      exact b w' k' hw' hk'
  · rw [mI_n (by omega), pk_un (by omega)]
    exact c w' f' hw' hf'
  · rw [mI_n (by omega), pk_un (by omega)]
    exact d p hp
theorem SR.setS (h : SR M i g np pt hr) (hw : w < 6) (hk : f < 8) (hn : n ≤ pt f) (hq : np ≤ 5) : SR (mI M (sbo i + (9 + w)) f (nI n)) i (upd g (2 + 14 * w + 6 + f) (nI n)) np pt hr := by
  obtain ⟨⟨a1, a2, a3, a4⟩, ⟨m, m1, m2, m3⟩, b, c, d⟩ := h
  refine ⟨⟨by rw [mI_n (by omega)]; exact a1, by rw [pk_un (by omega)]; exact a2, by rw [pk_un (by omega)]; exact a3, a4⟩, ⟨m, m1, by rw [mI_n (by omega)]; exact m2, fun p hp => by rw [pk_un (by omega)]; exact m3 p hp⟩, fun w' k' hw' hk' => ?_, fun w' f' hw' hf' => ?_, fun p hp => ?_⟩
  · rw [mI_n (by omega), pk_un (by omega)]
    exact b w' k' hw' hk'
  · by_cases e : w' = w ∧ f' = f
    · obtain ⟨rfl, rfl⟩ := e
      rw [mI_s, pk_us]
      exact ⟨rfl, n, hn, rfl⟩
    · rw [mI_n (by omega), pk_un (by omega)]
      exact c w' f' hw' hf'
  · rw [mI_n (by omega), pk_un (by omega)]
    exact d p hp
theorem SR.setW {n' : Nat} (h : SR M i g np pt hr) (hp' : p < 5) (hn : n ≤ 9999) (hn' : n' ≤ 9999) (he : pt 9 = 0 → n = n') (hq : np ≤ 5) : SR (mI M (sbo i + 15) p (nI n)) i (upd g (86 + 2 * p + 1) (nI n')) np pt hr := by
  obtain ⟨⟨a1, a2, a3, a4⟩, ⟨m, m1, m2, m3⟩, b, c, d⟩ := h
  refine ⟨⟨by rw [mI_n (by omega)]; exact a1, by rw [pk_un (by omega)]; exact a2, by rw [pk_un (by omega)]; exact a3, a4⟩, ⟨m, m1, by rw [mI_n (by omega)]; exact m2, fun p hp => by rw [pk_un (by omega)]; exact m3 p hp⟩, fun w' k' hw' hk' => ?_, fun w' f' hw' hf' => ?_, fun q hq => ?_⟩
  · rw [mI_n (by omega), pk_un (by omega)]
    exact b w' k' hw' hk'
  · rw [mI_n (by omega), pk_un (by omega)]
    exact c w' f' hw' hf'
  · by_cases e : q = p
    · subst e
      exact ⟨n, n', hn, hn', mI_s, pk_us, he⟩
    · rw [mI_n (by omega), pk_un (by omega)]
      exact d q hq
theorem learns_ok (X : HX a M σ nk nf np pt vl vf vm) (H : HTs K a M.2.2.2.1 σ vl vf vm) (hi : i < 22) (hw : w < 6) (hf : f < nf) (S : SR M i (σ.2.2.1 54) np pt hr) {s : Nat} (hs : σ.2.2.1 54 (2 + 14 * w + 6 + f) = nI s) (hs2 : s < pt f) : ∃ M' σ', fX5_learns K (hp a M) (a + sbo i) (nI w) (nI f) = some (hp a M') ∧ fX6_partSeen σ (nI w) (nI f) = some σ' ∧ SR M' i (σ'.2.2.1 54) np pt hr ∧ MG i M M' ∧ TG σ σ' := by
  have b := X.bk
  obtain ⟨⟨a1, a2, a3, a4⟩, -, t1, t2, t3⟩ := id S
  have hb := X.v.2.2.1 f
  have S1 := S.setS (w := w) (f := f) (n := s + 1) hw (by omega) (by omega) b.2.2
  rw [← sA_f] at S1
  have c1 : fX5_learns K (hp a M) (a + sbo i) (nI w) (nI f) = fX5_learns_34 K (a + sbo i) FU (hp a (mL (mI M (sbo i + (9 + w)) f (nI (s + 1))) 12 0 (nI (hr % 24)).toInt64)) (nI w) (nI f) 0 := by
    simp only [fX5_learns, s_g4 hi, s_seenO hi hw, c_seen hi hw (show f < 8 by omega), (t2 w f hw (by omega)).1, hs, bsm, nI_1, p_seen hi hw (show f < 8 by omega), s_g10 hi, x_g6, m_g11, s_g0 hi, mI_n (M := M) (o := sbo i + (9 + w)) (o' := sbo i) (j := 0) (k := f) (v := nI (s + 1)) (by omega), a1, (mod24 (show hr < 2 ^ 31 by omega)).1, p_mom0]
  have c2 : fX6_partSeen σ (nI w) (nI f) = fX6_partSeen_17 FU (sA σ 54 (2 + 14 * w + 6 + f) (nI (s + 1))) (nI w) (nI f) 0 := by
    simp only [fX6_partSeen, fX6_seenAt, ki2, ki14, ki6, nI_mul, nI_add, bsm, tg54 (i := 2 + 14 * w + 6 + f) (by omega), hs, nI_1, tp54 (i := 2 + 14 * w + 6 + f) (by omega)]
  rw [c1, c2]
  refine lp2z (F := fun n (x : HS) k => fX5_learns_34 K (a + sbo i) n x (nI w) (nI f) k) (G := fun n (y : MS) k => fX6_partSeen_17 n y (nI w) (nI f) k) (N := nk)
    (I := fun _ x y => ∃ M' σ', x = hp a M' ∧ y = σ' ∧ SR M' i (σ'.2.2.1 54) np pt hr ∧ MG i M M' ∧ TG σ σ' ∧ M'.2.1 12 0 = (nI (hr % 24)).toInt64)
    (P := fun r r' => ∃ M' σ', r = some (hp a M') ∧ r' = some σ' ∧ SR M' i (σ'.2.2.1 54) np pt hr ∧ MG i M M' ∧ TG σ σ') (by omega) ?_ ?_ ?_
  · exact ⟨_, _, rfl, rfl, S1.m (fun t _ => rfl) (fun _ _ => rfl) b.2.2, ((MG.refl i M).mI (by omega) (by omega)).mo, (TG.refl σ).sA (by omega) (by omega), mL_s⟩
  · rintro n m x σ' k hk ⟨M', _, rfl, rfl, S', G1, G2, mo⟩
    refine Or.inl ?_
    have X' := X.to G1.same G2.up
    have H' : HTs K a M'.2.2.2.1 σ' vl vf vm := by rw [G1.same.2]; exact H.up G2.up
    obtain ⟨⟨a1', a2', a3', a4'⟩, -, t1', t2', t3'⟩ := id S'
    have kk := nI_ge hk (show nk < 2 ^ 31 by omega)
    obtain ⟨fa, ia, f1, f2, f3, f4⟩ := X'.film K hf
    obtain ⟨-, -, -, -, v1, -⟩ := X'.v
    obtain ⟨q, q1, q2⟩ := v1 f k hf (by omega)
    obtain ⟨e1, tt, tt1, tt2⟩ := t1' w k hw (by omega)
    rw [tt2] at e1
    have e0 := SameH.refl M'
    have wt : fX6_weightOf σ' (nI f) (nI k) = some (nI q) := by
      simp only [fX6_weightOf, ki48, ki6, nI_mul, nI_add, tg43 (i := 48 + 6 * f + k) (by omega), q2, bsm]
    have hd : fX5_learns_34 K (a + sbo i) (n + 1) (hp a M') (nI w) (nI f) (nI k) = (if nI q = 0 then fX5_learns_34 K (a + sbo i) n (hp a M') (nI w) (nI f) (nI (k + 1)) else if vl = none then fX5_learns_147 K (a + sbo i) (fun h' b1 b2 b3 => fX5_learns_34 K (a + sbo i) n h' b1 b2 b3) (hp a (mL (mL M' 12 1 (nI tt).toInt64) 12 2 (nI q).toInt64)) (nI w) (nI f) (nI k) (nI q).toInt64 else (vAt K (hp a (mL (mL M' 12 1 (nI tt).toInt64) 12 2 (nI q).toInt64)) 64 vl (some (a + 11))).bind fun x31 => (fJ12_max_2 K (hp a (mL (mL M' 12 1 (nI tt).toInt64) 12 2 (nI q).toInt64)) (0 : Int64) x31).bind fun x32 => fX5_learns_147 K (a + sbo i) (fun h' b1 b2 b3 => fX5_learns_34 K (a + sbo i) n h' b1 b2 b3) (hp a (mL (mL M' 12 1 (nI tt).toInt64) 12 2 (nI q).toInt64)) (nI w) (nI f) (nI k) x32) := by
      obtain ⟨ha, g0, g2, g3, g4, g5, g9, g10, g11⟩ := X'.set K
      simp only [fX5_learns_34, s_g10 hi, x_rcv, X'.kinds e0, bsm, if_neg kk, f1 M' e0, f3 M' e0, f4 M' k e0 (show k < 6 by omega), q2, fX5_learns_173, nI_1, x_g6, m_g11, s_g3 hi, s_tasteO hi hw, c_taste hi hw (show k < 6 by omega), e1, p_mom1, p_mom2, x_g0, mL_3, g0 M' e0, g9 (mL (mL M' 12 1 (nI tt).toInt64) 12 2 (nI q).toInt64) ⟨rfl, rfl⟩]
    have h147 : ∀ t0 : Int64, fX5_learns_147 K (a + sbo i) (fun h' b1 b2 b3 => fX5_learns_34 K (a + sbo i) n h' b1 b2 b3) (hp a (mL (mL M' 12 1 (nI tt).toInt64) 12 2 (nI q).toInt64)) (nI w) (nI f) (nI k) t0 = (fX5_cut K (hp a (mL (mL M' 12 1 (nI tt).toInt64) 12 2 (nI q).toInt64)) (a + sbo i) ((nI tt).toInt64 + t0)).bind fun x7 => fX5_learns_34 K (a + sbo i) n (hp a (mI (mL (mL M' 12 1 (nI tt).toInt64) 12 2 (nI q).toInt64) (sbo i + (2 + w)) k x7)) (nI w) (nI f) (nI (k + 1)) := fun t0 => by
      simp only [fX5_learns_147, s_g3 hi, s_tasteO hi hw, c_taste hi hw (show k < 6 by omega), mL_1, e1, bsm, s_rcv hi, p_taste hi hw (show k < 6 by omega), fX5_learns_173, nI_1]
    have ht : fX6_partSeen_17 (m + 1) σ' (nI w) (nI f) (nI k) = (if nI q = 0 then fX6_partSeen_17 m σ' (nI w) (nI f) (nI (k + 1)) else if σ'.2.2.1 48 3 = -1 then fX6_partSeen_86 (fun σ' b1 b2 b3 => fX6_partSeen_17 m σ' b1 b2 b3) (sI (sI σ' 58 (nI tt)) 59 (nI q)) (nI w) (nI f) (nI k) (nI q).toInt64 else (fX6_codesTell (sI (sI σ' 58 (nI tt)) 59 (nI q)) (nI 0) (nI f)).bind fun x10 => fX6_partSeen_86 (fun σ' b1 b2 b3 => fX6_partSeen_17 m σ' b1 b2 b3) x10.1 (nI w) (nI f) (nI k) x10.2) := by
      have wt2 : fX6_weightOf (sI σ' 58 (nI tt)) (nI f) (nI k) = some (nI q) := wt
      simp only [fX6_partSeen_17, X'.kindM, bsm, if_neg kk, wt, fX6_partSeen_117, nI_1, fX6_tasteAt, ki2, ki14, nI_mul, nI_add, tg54 (i := 2 + 14 * w + k) (by omega), tt2, wt2, sI_2, ki3, tg48 (i := 3) (by omega), sI_s, show (0 : Int32) = nI 0 from rfl]
    rw [hd, ht]
    by_cases hq : nI q = 0
    · rw [if_pos hq, if_pos hq]
      exact ⟨_, _, ⟨M', σ', rfl, rfl, S', G1, G2, mo⟩, rfl, rfl⟩
    rw [if_neg hq, if_neg hq]
    have fin : ∀ (t0 x : Int64) (σ2 : MS), TV σ' σ2 → σ2.1 58 = nI tt → (0 < x → t0 = x) → (¬ 0 < x → t0 = 0) → ∃ x' y', (∃ M' σ', x' = hp a M' ∧ y' = σ' ∧ SR M' i (σ'.2.2.1 54) np pt hr ∧ MG i M M' ∧ TG σ σ' ∧ M'.2.1 12 0 = (nI (hr % 24)).toInt64) ∧ fX5_learns_147 K (a + sbo i) (fun h' b1 b2 b3 => fX5_learns_34 K (a + sbo i) n h' b1 b2 b3) (hp a (mL (mL M' 12 1 (nI tt).toInt64) 12 2 (nI q).toInt64)) (nI w) (nI f) (nI k) t0 = fX5_learns_34 K (a + sbo i) n x' (nI w) (nI f) (nI (k + 1)) ∧ fX6_partSeen_86 (fun σ' b1 b2 b3 => fX6_partSeen_17 m σ' b1 b2 b3) σ2 (nI w) (nI f) (nI k) x = fX6_partSeen_17 m y' (nI w) (nI f) (nI (k + 1)) := by
      intro t0 x σ2 T2 h58 hx1 hx2
      obtain ⟨r, r1, r2, r3, r4, r5⟩ := cut_o K (hp a (mL (mL M' 12 1 (nI tt).toInt64) 12 2 (nI q).toInt64)) (a + sbo i) σ2 ((nI tt).toInt64 + t0)
      rw [h147, r2, bsm]
      have mo' : ∀ v, (mI (mL (mL M' 12 1 (nI tt).toInt64) 12 2 (nI q).toInt64) (sbo i + (2 + w)) k v).2.1 12 0 = (nI (hr % 24)).toInt64 := fun v => by
        rw [mI_2, mL_n (Or.inr (by omega)), mL_n (Or.inr (by omega))]
        exact mo
      have S2 : SR (mL (mL M' 12 1 (nI tt).toInt64) 12 2 (nI q).toInt64) i (σ2.2.2.1 54) np pt hr := S'.m (fun t _ => rfl) (fun j _ => by rw [T2.1]) b.2.2
      have S3 := S2.setT (w := w) (k := k) (n := r) hw (by omega) r1 b.2.2
      have G3 : MG i M (mI (mL (mL M' 12 1 (nI tt).toInt64) 12 2 (nI q).toInt64) (sbo i + (2 + w)) k (nI r)) := ((G1.mo).mo).mI (by omega) (by omega)
      by_cases hx : 0 < x
      · rw [hx1 hx] at r3
        rw [← sA_f] at S3
        refine ⟨_, _, ⟨_, _, rfl, rfl, S3, G3, (G2.tr (TG.of T2)).sA (by omega) (by omega), mo' _⟩, rfl, ?_⟩
        have hx' : ¬ x ≤ 0 := by rw [l_le]; rw [l_lt] at hx; omega
        simp only [fX6_partSeen_86, if_neg hx', fX6_tasteAt, ki2, ki14, nI_mul, nI_add, bsm, h58, r3, tp54 (i := 2 + 14 * w + k) (by omega), fX6_partSeen_117, nI_1]
      · have hx' : x ≤ 0 := by rw [l_le]; rw [l_lt] at hx; omega
        have hr' : r = tt := by
          refine r5 tt ?_ tt1
          rw [hx2 hx, Int64.add_zero, Int32.toInt_toInt64, nI_toInt (by omega)]
        refine ⟨_, σ2, ⟨_, _, rfl, rfl, ?_, G3, G2.tr (TG.of T2), mo' _⟩, rfl, ?_⟩
        · have : upd (σ2.2.2.1 54) (2 + 14 * w + k) (nI r) = σ2.2.2.1 54 := by
            funext j
            unfold upd
            split
            · rename_i hj
              rw [hj, T2.1, tt2, hr']
            · rfl
          rw [this] at S3
          exact S3
        · simp only [fX6_partSeen_86, if_pos hx', fX6_partSeen_117, nI_1]
    have T0 : TV σ' (sI (sI σ' 58 (nI tt)) 59 (nI q)) := ((TV.refl σ').sI (k := 58) (by omega)).sI (k := 59) (by omega)
    have q58 : (sI (sI σ' 58 (nI tt)) 59 (nI q)).1 58 = nI tt := by rw [sI_n (by omega), sI_s]
    by_cases hv : vl = none
    · have h48 : σ'.2.2.1 48 3 = -1 := by
        rcases H'.1 with ⟨z1, z2⟩ | ⟨r, cs, lo, hi', z1, -⟩
        · exact z2
        · rw [hv] at z1; cases z1
      rw [if_pos hv, if_pos h48]
      refine fin _ _ _ T0 q58 (fun _ => rfl) (fun hx => ?_)
      exfalso
      apply hx
      have hq0 : q ≠ 0 := fun z => hq (by rw [z]; rfl)
      rw [l_lt, k0l, Int32.toInt_toInt64, nI_toInt (by omega)]
      omega
    · obtain ⟨x, σ2, z1, z2, z3, z4⟩ := HT.tell (K := K) (f := f) (M := M') (σ := sI (sI σ' 58 (nI tt)) 59 (nI q)) (M' := mL (mL M' 12 1 (nI tt).toInt64) 12 2 (nI q).toInt64) (w := 0) (by omega) (H'.1.up (by omega) T0.up) hv ⟨rfl, rfl⟩ (fun j hj hj8 => by
          rcases (show j = 0 ∨ j = 1 ∨ j = 2 by omega) with h | h | h <;> subst h
          · rw [mL_n (Or.inr (by omega)), mL_n (Or.inr (by omega)), mo]; exact BD_n (by omega)
          · rw [mL_n (Or.inr (by omega)), mL_s]; exact BD_n (by omega)
          · rw [mL_s]; exact BD_n (by omega)) (fun σ3 Q j hj hj8 => by
          rcases (show j = 0 ∨ j = 1 ∨ j = 2 by omega) with h | h | h <;> subst h
          · rw [mL_n (Or.inr (by omega)), mL_n (Or.inr (by omega)), mo]; exact qp0 (by rw [Q.1]; exact a3') _
          · rw [mL_n (Or.inr (by omega)), mL_s, qp1, Q.2.2.1 58 (by omega) (by omega), q58]
          · rw [mL_s, qp2, Q.2.2.1 59 (by omega) (by omega), sI_s])
      have z5 : ¬ σ'.2.2.1 48 3 = -1 := z4
      rw [if_neg hv, if_neg z5, z1, z2]
      simp only [bsm]
      have T2 : TV σ' σ2 := T0.tr (TV.of z3)
      have z6 : σ2.1 58 = nI tt := by rw [z3.2.2.1 58 (by omega) (by omega), q58]
      unfold fJ12_max_2
      by_cases hx : 0 < x
      · rw [if_pos hx, bsm]
        exact fin _ _ _ T2 z6 (fun _ => rfl) (fun h => absurd hx h)
      · rw [if_neg hx, bsm]
        exact fin _ _ _ T2 z6 (fun h => absurd h hx) (fun _ => rfl)
  · rintro n m x σ' ⟨M', _, rfl, rfl, S', G1, G2, mo⟩
    have kk := nI_le (Nat.le_refl nk) (show nk < 2 ^ 31 by omega)
    refine ⟨M', σ', ?_, ?_, S', G1, G2⟩
    · simp only [fX5_learns_34, s_g10 hi, x_rcv, X.kinds G1.same, bsm, if_pos kk]
    · simp only [fX6_partSeen_17, (X.to G1.same G2.up).kindM, bsm, if_pos kk]
end PLN

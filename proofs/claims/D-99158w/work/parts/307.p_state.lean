/-! PLAIN LAW, a State against a row of the twin's numbers -/
set_option maxRecDepth 100000
theorem bit_sm : ∀ p, p < 32 → ((nI p &&& 31).toBitVec.smod 32).toNat = p := by decide +kernel
theorem bit_m {m p : Nat} (hm : m < 2 ^ 31) (hp : p < 31) : (nI m >>> (nI p &&& 31)) &&& 1 = nI (m / 2 ^ p % 2) := by
  rw [pk_shrN hm _ p (bit_sm p (by omega))]
  have := Nat.div_le_self m (2 ^ p)
  exact pk_andN (n := m / 2 ^ p) (by omega) (m := 1) 1 rfl
theorem shl1 : ∀ p, p < 31 → (1 : Int32) <<< (nI p &&& 31) = nI (2 ^ p) := by decide +kernel
theorem c_has (K : KE) (h : HS) {m p : Nat} (hm : m < 2 ^ 31) (hp : p < 31) : fX0_has K h (nI m) (nI p) = some (nI (m / 2 ^ p % 2)) := by
  unfold fX0_has
  rw [bit_m hm hp]
  rcases Nat.mod_two_eq_zero_or_one (m / 2 ^ p) with e | e <;> rw [e] <;> rfl
theorem mod24 {n : Nat} (h : n < 2 ^ 31) : nI n - nI n / (24 : Int32) * (24 : Int32) = nI (n % 24) ∧ nI n / (24 : Int32) = nI (n / 24) := by
  have e : nI n / (24 : Int32) = nI (n / 24) := by
    apply Int32.toInt_inj.mp
    rw [Int32.toInt_div_of_ne_right _ _ (by decide), nI_toInt h, nI_toInt (by omega)]
    show (n : Int).tdiv 24 = _
    rw [Int.tdiv_eq_ediv_of_nonneg (by omega)]
    omega
  refine ⟨?_, e⟩
  rw [e, ki24, nI_mul, nI_sub (by omega)]
  congr 1
  omega
/-- a State's first numbers against the twin's row g; hr: its hour -/
def SR (M : CM) (i : Nat) (g : Nat → Int32) (np : Nat) (pt : Nat → Nat) (hr : Nat) : Prop :=
  (M.1 (sbo i) 0 = nI hr ∧ g 0 = nI (hr / 24) ∧ g 1 = nI (hr % 24) ∧ hr < 30000) ∧
  (∃ m, m < 2 ^ np ∧ M.1 (sbo i) 1 = nI m ∧ ∀ p, p < np → g (86 + 2 * p) = nI (m / 2 ^ p % 2)) ∧
  (∀ w k, w < 6 → k < 6 → M.1 (sbo i + (2 + w)) k = g (2 + 14 * w + k) ∧ bnd (g (2 + 14 * w + k)) 999) ∧
  (∀ w f, w < 6 → f < 8 → M.1 (sbo i + (9 + w)) f = g (2 + 14 * w + 6 + f) ∧ bnd (g (2 + 14 * w + 6 + f)) (pt f)) ∧
  (∀ p, p < 5 → ∃ c c', c ≤ 9999 ∧ c' ≤ 9999 ∧ M.1 (sbo i + 15) p = nI c ∧ g (86 + 2 * p + 1) = nI c' ∧ (pt 9 = 0 → c = c'))
/-- rows of what was seen: how many, where they lie -/
def RS (a : Nat) (M : CM) (i : Nat) (π : Nat → Nat) (kp : Nat) : Prop := kp ≤ 40 ∧ M.1 (sbo i) 2 = nI kp ∧ (∀ k, k < 40 → π k < 40 ∧ M.2.2.1 (sbo i + 16) k = some (a + (sbo i + (17 + π k)))) ∧ (∀ j k, j < 40 → k < 40 → π j = π k → j = k)
def KR (M : CM) (i : Nat) (g : Nat → Int32) (π : Nat → Nat) (kp : Nat) : Prop := g 96 = nI kp ∧ ∀ k j, k < kp → j < 4 → M.1 (sbo i + (17 + π k)) j = g (97 + 4 * k + j)
/-- how each is pleased, how often refused -/
def PR (B : Nat → Nat) (M : CM) (i : Nat) (σ : MS) : Prop := ∀ p, p < 5 → M.2.1 (sbo i + 57) p = σ.2.2.2 62 p ∧ M.1 (sbo i + 58) p = σ.2.2.1 63 p ∧ -(B p : Int) ≤ (σ.2.2.2 62 p).toInt ∧ (σ.2.2.2 62 p).toInt ≤ B p
/-- nothing but State i and the moment has changed -/
def MF (i : Nat) (M M' : CM) : Prop := (∀ o, (o < sbo i ∨ sbo i + 59 ≤ o) → M'.1 o = M.1 o) ∧ (∀ o, (o < sbo i ∨ sbo i + 59 ≤ o) → o ≠ 12 → M'.2.1 o = M.2.1 o) ∧ (∀ o, o ≠ sbo i + 16 → M'.2.2.1 o = M.2.2.1 o) ∧ M'.2.2.2 = M.2.2.2
/-- what an hour of the twin leaves as it was -/
def TF (σ σ' : MS) : Prop := (∀ k, k ≠ 53 → k ≠ 57 → k ≠ 58 → k ≠ 59 → k ≠ 98 → σ'.1 k = σ.1 k) ∧ σ'.2.1 = σ.2.1 ∧ (∀ k, k ≠ 54 → k ≠ 61 → k ≠ 63 → σ'.2.2.1 k = σ.2.2.1 k) ∧ (∀ k, k ≠ 62 → k ≠ 97 → σ'.2.2.2 k = σ.2.2.2 k)
/-- beyond its first part the row is as it was -/
def T96 (σ σ' : MS) : Prop := ∀ j, 96 ≤ j → σ'.2.2.1 54 j = σ.2.2.1 54 j
section PST
variable {K : KE} {a i j k f p w n o : Nat} {M M' M1 M2 : CM} {σ σ' σ1 σ2 : MS} {nk nf np hr : Nat} {pt : Nat → Nat} {vl vf vm : Option Nat} {g g' : Nat → Int32}
theorem MF.refl (i : Nat) (M : CM) : MF i M M := ⟨fun _ _ => rfl, fun _ _ _ => rfl, fun _ _ => rfl, rfl⟩
theorem MF.tr (h : MF i M M1) (g : MF i M1 M2) : MF i M M2 := ⟨fun o q => (g.1 o q).trans (h.1 o q), fun o q r => (g.2.1 o q r).trans (h.2.1 o q r), fun o q => (g.2.2.1 o q).trans (h.2.2.1 o q), g.2.2.2.trans h.2.2.2⟩
theorem MF.same (hi : i < 22) (h : MF i M M') : SameH M M' := ⟨by rw [h.2.2.1 0 (by have := sbo_lt hi; omega)], by rw [h.2.2.2]⟩
theorem MF.mo {v : Int64} (h : MF i M M') : MF i M (mL M' 12 k v) := ⟨h.1, fun q hq r => by rw [mL_o r]; exact h.2.1 q hq r, h.2.2.1, h.2.2.2⟩
theorem MF.mI {v : Int32} (h : MF i M M') (h1 : sbo i ≤ o) (h2 : o < sbo i + 59) : MF i M (mI M' o k v) := ⟨fun q hq => by rw [mI_o (by omega)]; exact h.1 q hq, h.2.1, h.2.2.1, h.2.2.2⟩
theorem MF.mL {v : Int64} (h : MF i M M') (h1 : sbo i ≤ o) (h2 : o < sbo i + 59) : MF i M (mL M' o k v) := ⟨h.1, fun q hq r => by rw [mL_o (by omega)]; exact h.2.1 q hq r, h.2.2.1, h.2.2.2⟩
theorem MF.mR {v : Option Nat} (h : MF i M M') : MF i M (mR M' (sbo i + 16) k v) := ⟨h.1, h.2.1, fun q hq => by rw [mR_o hq]; exact h.2.2.1 q hq, h.2.2.2⟩
theorem TF.refl (σ : MS) : TF σ σ := ⟨fun _ _ _ _ _ _ => rfl, rfl, fun _ _ _ _ => rfl, fun _ _ _ => rfl⟩
theorem TF.tr (h : TF σ σ1) (g : TF σ1 σ2) : TF σ σ2 := ⟨fun k a b c d e => (g.1 k a b c d e).trans (h.1 k a b c d e), g.2.1.trans h.2.1, fun k a b c => (g.2.2.1 k a b c).trans (h.2.2.1 k a b c), fun k a b => (g.2.2.2 k a b).trans (h.2.2.2 k a b)⟩
theorem TF.up (h : TF σ σ') : UpE σ σ' := ⟨fun k hk => h.2.2.1 k (by omega) (by omega) (by omega), h.2.2.2 41 (by omega) (by omega)⟩
theorem TF.of (h : QF3 σ σ') : TF σ σ' := ⟨fun k a b c d e => h.2.2.1 k e a, h.2.1, fun k a b c => by rw [h.1], fun k a b => h.2.2.2 k b⟩
theorem SR.m (h : SR M i g np pt hr) (e1 : ∀ t, t < 57 → M'.1 (sbo i + t) = M.1 (sbo i + t)) (e2 : ∀ j, j < 96 → g' j = g j) (hn : np ≤ 5) : SR M' i g' np pt hr := by
  obtain ⟨⟨a1, a2, a3, a4⟩, ⟨m, m1, m2, m3⟩, b, c, d⟩ := h
  have e0 := e1 0 (by omega)
  rw [Nat.add_zero] at e0
  refine ⟨⟨by rw [e0]; exact a1, by rw [e2 0 (by omega)]; exact a2, by rw [e2 1 (by omega)]; exact a3, a4⟩, ⟨m, m1, by rw [e0]; exact m2, fun p hp => by rw [e2 _ (by omega)]; exact m3 p hp⟩, fun w k hw hk => ?_, fun w k hw hk => ?_, fun p hp => ?_⟩
  · rw [e1 _ (by omega), e2 _ (by omega)]; exact b w k hw hk
  · rw [e1 _ (by omega), e2 _ (by omega)]; exact c w k hw hk
  · rw [e1 _ (by omega), e2 _ (by omega)]; exact d p hp
theorem SR.saw (h : SR M i g np pt hr) (h0 : pt 9 = 0) (hp' : p < 5) : M.1 (sbo i + 15) p = g (86 + 2 * p + 1) ∧ bnd (g (86 + 2 * p + 1)) 9999 := by
  obtain ⟨-, -, -, -, d⟩ := h
  obtain ⟨c, c', c1, c2, c3, c4, c5⟩ := d p hp'
  exact ⟨by rw [c3, c4, c5 h0], c', c2, c4⟩
/-- what is tried may have seen more -/
theorem SR.loose {pt' : Nat → Nat} {c : Nat} (h : SR M i g np pt hr) (h1 : pt' 9 ≠ 0) (h2 : ∀ f, f < 8 → pt' f = pt f) (hc : c ≤ 9999) (hp' : p < 5) (e : g' (86 + 2 * p + 1) = nI c) (e2 : ∀ j, j < 96 → j ≠ 86 + 2 * p + 1 → g' j = g j) (hn : np ≤ 5) : SR M i g' np pt' hr := by
  obtain ⟨⟨a1, a2, a3, a4⟩, ⟨m, m1, m2, m3⟩, b, c', d⟩ := h
  refine ⟨⟨a1, by rw [e2 0 (by omega) (by omega)]; exact a2, by rw [e2 1 (by omega) (by omega)]; exact a3, a4⟩, ⟨m, m1, m2, fun q hq => by rw [e2 _ (by omega) (by omega)]; exact m3 q hq⟩, fun w k hw hk => ?_, fun w k hw hk => ?_, fun q hq => ?_⟩
  · rw [e2 _ (by omega) (by omega)]; exact b w k hw hk
  · rw [e2 _ (by omega) (by omega), h2 k hk]; exact c' w k hw hk
  · obtain ⟨x, x', x1, x2, x3, x4, x5⟩ := d q hq
    by_cases z : q = p
    · subst z
      exact ⟨x, c, x1, hc, x3, e, fun h => absurd h h1⟩
    · exact ⟨x, x', x1, x2, x3, by rw [e2 _ (by omega) (by omega)]; exact x4, fun h => absurd h h1⟩
/-- who presses, by which profile one goes -/
theorem SR.prof (K : KE) (h : SR M i (σ.2.2.1 54) np pt hr) (hi : i < 22) (hn : np ≤ 5) (hp' : p < np) : ∃ m, m < 2 ^ np ∧ M.1 (sbo i) 1 = nI m ∧ fX6_doesPress σ (nI p) = some (nI (m / 2 ^ p % 2)) ∧ ∃ w, w = (if m / 2 ^ p % 2 = 0 then 0 else p + 1) ∧ w ≤ np ∧ fX5_profile K (hp a M) (a + sbo i) (nI p) = some (nI w) ∧ fX6_profileOf σ (nI p) = some (nI w) := by
  obtain ⟨-, ⟨m, m1, m2, m3⟩, -⟩ := h
  have hm : m < 2 ^ 31 := Nat.lt_of_lt_of_le m1 (Nat.pow_le_pow_right (by omega) (by omega))
  have e1 : fX6_doesPress σ (nI p) = some (nI (m / 2 ^ p % 2)) := by
    simp only [fX6_doesPress, ki86, ki2, nI_mul, nI_add, tg54 (i := 86 + 2 * p) (by omega), bsm, m3 p hp']
    rcases Nat.mod_two_eq_zero_or_one (m / 2 ^ p) with e | e <;> rw [e] <;> rfl
  refine ⟨m, m1, m2, e1, _, rfl, by split <;> omega, ?_, ?_⟩
  · simp only [fX5_profile, nI_eqm (show p < 2 ^ 31 by omega), if_false, s_g1 hi, m2, bsm, c_has K _ hm (show p < 31 by omega)]
    rcases Nat.mod_two_eq_zero_or_one (m / 2 ^ p) with e | e <;> rw [e]
    · rfl
    · rw [if_neg (by decide), if_neg (by decide), nI_1]
  · simp only [fX6_profileOf, e1, bsm]
    rcases Nat.mod_two_eq_zero_or_one (m / 2 ^ p) with e | e <;> rw [e]
    · rfl
    · rw [if_neg (by decide), if_neg (by decide), nI_1', Nat.add_comm]
def sv (σ : MS) (nk w f : Nat) : Int32 := lp (fun k x => x + σ.2.2.1 43 (48 + 6 * f + k) * σ.2.2.1 54 (2 + 14 * w + k)) 1 nk
theorem HX.scoreC (X : HX a M σ nk nf np pt vl vf vm) (hi : i < 22) (hw : w < 6) (hf : f < nf) (e : SameH M M') (et : ∀ k, k < 6 → M'.1 (sbo i + (2 + w)) k = σ.2.2.1 54 (2 + 14 * w + k)) : fX5_score K (hp a M') (a + sbo i) (nI w) (nI f) = some (sv σ nk w f) := by
  have b := X.bk
  obtain ⟨fa, ia, f1, f2, f3, f4⟩ := X.film K hf
  refine lpF (F := fun n x i' => fX5_score_5 K (hp a M') (a + sbo i) n (nI w) (nI f) x i') (N := nk) (g := fun k x => x + σ.2.2.1 43 (48 + 6 * f + k) * σ.2.2.1 54 (2 + 14 * w + k)) (r := some) (x := 1) (fun n k hk => ?_) (fun n => ?_) (FU_lt (by omega))
  · simp only [fX5_score_5, s_g10 hi, x_rcv, X.kinds e, bsm, if_neg (nI_ge hk (show nk < 2 ^ 31 by omega)), f1 M' e, f3 M' e, f4 M' k e (by omega), s_g3 hi, s_tasteO hi hw, c_taste hi hw (show k < 6 by omega), et k (by omega), nI_1, lp]
  · simp only [fX5_score_5, s_g10 hi, x_rcv, X.kinds e, bsm, if_pos (nI_le (Nat.le_refl nk) (show nk < 2 ^ 31 by omega))]
theorem HX.scoreT (X : HX a M σ nk nf np pt vl vf vm) (hw : w < 6) (hf : f < nf) : fX6_scoreOf σ (nI w) (nI f) = some (sv σ nk w f) := by
  have b := X.bk
  refine lpF (F := fun n x i' => fX6_scoreOf_5 σ n (nI w) (nI f) x i') (N := nk) (g := fun k x => x + σ.2.2.1 43 (48 + 6 * f + k) * σ.2.2.1 54 (2 + 14 * w + k)) (r := some) (x := 1) (fun n k hk => ?_) (fun n => ?_) (FU_lt (by omega))
  · simp only [fX6_scoreOf_5, X.kindM, bsm, if_neg (nI_ge hk (show nk < 2 ^ 31 by omega)), fX6_weightOf, fX6_tasteAt, ki48, ki6, ki2, ki14, nI_mul, nI_add, tg43 (i := 48 + 6 * f + k) (by omega), tg54 (i := 2 + 14 * w + k) (by omega), nI_1, lp]
  · simp only [fX6_scoreOf_5, X.kindM, bsm, if_pos (nI_le (Nat.le_refl nk) (show nk < 2 ^ 31 by omega))]
theorem HX.scoreB (X : HX a M σ nk nf np pt vl vf vm) (hw : w < 6) (hf : f < nf) (h : SR M i (σ.2.2.1 54) np pt hr) : bnd (sv σ nk w f) 53947 := by
  have b := X.bk
  obtain ⟨-, -, -, -, v1, v2, -⟩ := X.v
  obtain ⟨-, -, t, -⟩ := h
  refine bnd_mono (lp_bnd (m := 8991) (b0 := 1) 1 ⟨1, by omega, rfl⟩ (fun k hk => bnd_mul (v1 f k hf (by omega)) (t w k hw (by omega)).2) (by omega)) (by omega)
theorem sv_c (e1 : σ'.2.2.1 43 = σ.2.2.1 43) (e2 : ∀ k, k < 6 → σ'.2.2.1 54 (2 + 14 * w + k) = σ.2.2.1 54 (2 + 14 * w + k)) (hk : nk ≤ 6) : sv σ' nk w f = sv σ nk w f := lp_cong fun k hk' => by
  funext x
  rw [e1, e2 k (by omega)]
theorem wv_c (e1 : UpE σ σ') : wv σ' nk p f = wv σ nk p f := lp_cong fun k _ => by
  funext x
  rw [e1.1 43 (by simp), e1.1 45 (by simp)]
/-- whether a film is over -/
theorem HX.over (K : KE) (X : HX a M σ nk nf np pt vl vf vm) (hi : i < 22) (hw : w < 6) (hf : f < nf) (h : SR M i (σ.2.2.1 54) np pt hr) : ∃ s, s ≤ pt f ∧ σ.2.2.1 54 (2 + 14 * w + 6 + f) = nI s ∧ fX5_isOver K (hp a M) (a + sbo i) (nI w) (nI f) = some (if s = pt f then 1 else 0) ∧ fX6_seenBy σ (nI w) (nI f) = some (nI s) ∧ fX6_partsOf σ (nI f) = some (nI (pt f)) := by
  have b := X.bk
  obtain ⟨fa, ia, f1, f2, f3, f4⟩ := X.film K hf
  obtain ⟨-, -, vp, vq, -⟩ := X.v
  obtain ⟨-, -, -, c, -⟩ := h
  obtain ⟨c1, s, s1, s2⟩ := c w f hw (by omega)
  have hb := vp f
  refine ⟨s, s1, s2, ?_, ?_, ?_⟩
  · simp only [fX5_isOver, s_g4 hi, s_seenO hi hw, c_seen hi hw (show f < 8 by omega), c1, s2, s_g10 hi, x_rcv, f1 M (SameH.refl M), f2 M (SameH.refl M), (vq f hf).2, bsm, nI_eqE (show s < 2 ^ 31 by omega) (show pt f < 2 ^ 31 by omega)]
    split <;> rfl
  · simp only [fX6_seenBy, fX6_seenAt, ki2, ki14, ki6, nI_mul, nI_add, tg54 (i := 2 + 14 * w + 6 + f) (by omega), s2, bsm]
  · simp only [fX6_partsOf, ki8, nI_add, tg42 (i := 8 + f) (by omega), (vq f hf).2, bsm]
end PST

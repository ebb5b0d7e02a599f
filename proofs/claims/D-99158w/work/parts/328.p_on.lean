/-! PLAIN LAW, an image is taken on -/
set_option maxRecDepth 100000
theorem or_nN (x y : Nat) : nI x ||| nI y = nI (x ||| y) := by
  apply Int32.toBitVec_inj.mp
  show BitVec.ofNat 32 x ||| BitVec.ofNat 32 y = BitVec.ofNat 32 (x ||| y)
  exact BitVec.ofNat_or.symm
theorem two_o {x y : Nat} (hx : x < 256) (hy : y < 256) : nI x <<< ((8 : Int32) &&& 31) ||| nI y = nI (256 * x + y) := by
  show nI x <<< (nI 8 &&& 31) ||| nI y = _
  rw [pk_shlN _ 8 (bit_sm 8 (by omega)) (by omega), or_nN, Nat.mul_comm x, ← Nat.two_pow_add_eq_or_of_lt (i := 8) (by omega)]
def BA (M : CM) (B : Nat → Nat) : Prop := ∀ k, k < 1600 → B k < 256 ∧ M.1 8 k &&& 255 = nI (B k)
def BT (σ : MS) (B : Nat → Nat) : Prop := ∀ k, k < 1600 → B k < 256 ∧ σ.2.2.1 0 k = nI (B k)
def tw (B : Nat → Nat) (j : Nat) : Nat := 256 * B j + B (j + 1)
/-- where profile w lies -/
def pf (nk nf w : Nat) : Nat := 3 + w * (2 * nk + nf)
def VP (B : Nat → Nat) (pt : Nat → Nat) (nk nf w : Nat) : Prop := (∀ k, k < nk → tw B (pf nk nf w + 2 * k) ≤ 999) ∧ (∀ f, f < nf → B (pf nk nf w + 2 * nk + f) ≤ pt f)
def VQ (B : Nat → Nat) (q p : Nat) : Prop := B (q + 3 * p) ≤ 1 ∧ tw B (q + 3 * p + 1) ≤ 9999
section PON
variable {K : KE} {a i n k f p m nk nf np hr tp r j w c : Nat} {M M' M1 : CM} {σ σ' : MS} {pt : Nat → Nat} {vl vf vm : Option Nat} {B : Nat → Nat}
theorem ZP.bt (Z : ZP M σ) : ∃ B, BA M B ∧ BT σ B := by
  refine ⟨fun k => (σ.2.2.1 0 k).toNatClampNeg, fun k hk => ?_, fun k hk => ?_⟩
  · obtain ⟨c, c1, c2, c3⟩ := Z k hk
    have : (σ.2.2.1 0 k).toNatClampNeg = c := by rw [c2, nI_clamp (by omega)]
    dsimp only
    rw [this, c3, byte_o c c1]
    exact ⟨c1, rfl⟩
  · obtain ⟨c, c1, c2, c3⟩ := Z k hk
    have : (σ.2.2.1 0 k).toNatClampNeg = c := by rw [c2, nI_clamp (by omega)]
    dsimp only
    rw [this, c2]
    exact ⟨c1, rfl⟩
theorem BA.at (Z : BA M B) (hk : k < 1600) : fX0_byteAt K (hp a M) a (nI k) = some (nI (B k)) := by
  simp only [fX0_byteAt, x_g1, bsm, c_tape hk, (Z k hk).2]
theorem BA.two (Z : BA M B) (hk : k + 1 < 1600) : fX0_twoAt K (hp a M) a (nI k) = some (nI (tw B k)) := by
  simp only [fX0_twoAt, x_rcv, bsm, Z.at (K := K) (a := a) (show k < 1600 by omega), nI_1, Z.at (K := K) (a := a) hk, two_o (Z k (by omega)).1 (Z (k + 1) hk).1, tw]
theorem BT.at (Z : BT σ B) (hk : k < 1600) : aI σ 0 (nI k) = some (nI (B k)) := by rw [tg0 hk, (Z k hk).2]
theorem BT.two (Z : BT σ B) (hk : k + 1 < 1600) : fX6_twoAt σ (nI k) = some (nI (tw B k)) := by
  have e : (256 : Int32) * nI (B k) + nI (B (k + 1)) = nI (256 * B k + B (k + 1)) := by rw [show (256 : Int32) = nI 256 from rfl, nI_mul, nI_add]
  simp only [fX6_twoAt, Z.at (show k < 1600 by omega), nI_1, Z.at hk, bsm, e, tw]
theorem BA.to (Z : BA M B) (e : M'.1 8 = M.1 8) : BA M' B := fun k hk => by rw [e]; exact Z k hk
theorem BT.to (Z : BT σ B) (e : σ'.2.2.1 0 = σ.2.2.1 0) : BT σ' B := fun k hk => by rw [e]; exact Z k hk
theorem tw_le (h : B k < 256) (h' : B (k + 1) < 256) : tw B k < 65536 := by unfold tw; omega
/-- the tastes of a profile, taken on by the component -/
theorem on_t (X : HX a M σ nk nf np pt vl vf vm) (e0 : SameH M M1) (Z : BA M1 B) (hw : w < 6) (hb : pf nk nf w + 2 * nk < 1500) : ∃ M2 fl, fX0_profileOn_5 K a FU (hp a M1) (nI w) (nI (pf nk nf w)) 1 0 = fX0_profileOn_73 K a FU (hp a M2) (nI w) (nI (pf nk nf w)) fl 0 ∧ (fl = 1 ∧ (∀ k, k < nk → tw B (pf nk nf w + 2 * k) ≤ 999) ∨ fl = 0 ∧ ¬ ∀ k, k < nk → tw B (pf nk nf w + 2 * k) ≤ 999) ∧ M2.2 = M1.2 ∧ ∀ o t, M2.1 o t = if o = sbo 1 + (2 + w) ∧ t < nk then nI (tw B (pf nk nf w + 2 * t)) else M1.1 o t := by
  have b := X.bk
  have i1 : 1 < 22 := by omega
  refine lp1z (F := fun n (x : HS × Int32) k => fX0_profileOn_5 K a n x.1 (nI w) (nI (pf nk nf w)) x.2 k) (N := nk) (x := (hp a M1, 1))
    (I := fun q x => ∃ M2, x.1 = hp a M2 ∧ (x.2 = 1 ∧ (∀ k, k < q → tw B (pf nk nf w + 2 * k) ≤ 999) ∨ x.2 = 0 ∧ ¬ ∀ k, k < nk → tw B (pf nk nf w + 2 * k) ≤ 999) ∧ M2.2 = M1.2 ∧ ∀ o t, M2.1 o t = if o = sbo 1 + (2 + w) ∧ t < q then nI (tw B (pf nk nf w + 2 * t)) else M1.1 o t)
    (P := fun r => ∃ M2 fl, r = fX0_profileOn_73 K a FU (hp a M2) (nI w) (nI (pf nk nf w)) fl 0 ∧ (fl = 1 ∧ (∀ k, k < nk → tw B (pf nk nf w + 2 * k) ≤ 999) ∨ fl = 0 ∧ ¬ ∀ k, k < nk → tw B (pf nk nf w + 2 * k) ≤ 999) ∧ M2.2 = M1.2 ∧ ∀ o t, M2.1 o t = if o = sbo 1 + (2 + w) ∧ t < nk then nI (tw B (pf nk nf w + 2 * t)) else M1.1 o t) (by omega) ⟨M1, rfl, Or.inl ⟨rfl, fun k hk => absurd hk (by omega)⟩, rfl, fun o t => by rw [if_neg (by omega)]⟩ ?_ ?_
  · rintro n ⟨h, fl⟩ q hq ⟨M2, rfl, hf, e2, e3⟩
    have kk := nI_ge hq (show nk < 2 ^ 31 by omega)
    have es : SameH M M2 := ⟨by rw [e2]; exact e0.1, by rw [e2]; exact e0.2⟩
    have Z2 : BA M2 B := Z.to (by funext t; rw [e3, if_neg]; intro z; have : sbo 1 = 75 := rfl; omega)
    have ea : nI (pf nk nf w) + 2 * nI q = nI (pf nk nf w + 2 * q) := by rw [ki2, nI_mul, nI_add]
    have t2 := Z2.two (K := K) (a := a) (k := pf nk nf w + 2 * q) (by omega)
    have hl := tw_le (Z (pf nk nf w + 2 * q) (by omega)).1 (Z (pf nk nf w + 2 * q + 1) (by omega)).1
    have k9 : ((999 : Int32) < nI (tw B (pf nk nf w + 2 * q))) = (999 < tw B (pf nk nf w + 2 * q)) := nI_ltE (a := 999) (by omega) (by omega)
    have es' : SameH M (mI M2 (sbo 1 + (2 + w)) q (nI (tw B (pf nk nf w + 2 * q)))) := es
    have ct : (mI M2 (sbo 1 + (2 + w)) q (nI (tw B (pf nk nf w + 2 * q)))).1 (sbo 1 + (2 + w)) q = nI (tw B (pf nk nf w + 2 * q)) := mI_s
    have fin : ∀ fl' : Int32, (fl' = 1 ∧ (∀ k, k < q + 1 → tw B (pf nk nf w + 2 * k) ≤ 999) ∨ fl' = 0 ∧ ¬ ∀ k, k < nk → tw B (pf nk nf w + 2 * k) ≤ 999) → ∃ x' : HS × Int32, (∃ M2, x'.1 = hp a M2 ∧ (x'.2 = 1 ∧ (∀ k, k < q + 1 → tw B (pf nk nf w + 2 * k) ≤ 999) ∨ x'.2 = 0 ∧ ¬ ∀ k, k < nk → tw B (pf nk nf w + 2 * k) ≤ 999) ∧ M2.2 = M1.2 ∧ ∀ o t, M2.1 o t = if o = sbo 1 + (2 + w) ∧ t < q + 1 then nI (tw B (pf nk nf w + 2 * t)) else M1.1 o t) ∧ x' = (hp a (mI M2 (sbo 1 + (2 + w)) q (nI (tw B (pf nk nf w + 2 * q)))), fl') := fun fl' hfl => ⟨_, ⟨mI M2 (sbo 1 + (2 + w)) q (nI (tw B (pf nk nf w + 2 * q))), rfl, hfl, e2, fun o t => by
        rw [mI_1, e3]
        by_cases h1 : o = sbo 1 + (2 + w) ∧ t = q
        · rw [if_pos h1, if_pos (by omega), h1.2]
        · rw [if_neg h1]
          by_cases h2 : o = sbo 1 + (2 + w) ∧ t < q
          · rw [if_pos h2, if_pos (by omega)]
          · rw [if_neg h2, if_neg (by omega)]⟩, rfl⟩
    have st : ∃ fl' : Int32, (fl' = 1 ∧ (∀ k, k < q + 1 → tw B (pf nk nf w + 2 * k) ≤ 999) ∨ fl' = 0 ∧ ¬ ∀ k, k < nk → tw B (pf nk nf w + 2 * k) ≤ 999) ∧ fX0_profileOn_5 K a (n + 1) (hp a M2) (nI w) (nI (pf nk nf w)) fl (nI q) = fX0_profileOn_5 K a n (hp a (mI M2 (sbo 1 + (2 + w)) q (nI (tw B (pf nk nf w + 2 * q))))) (nI w) (nI (pf nk nf w)) fl' (nI (q + 1)) := by
      rcases hf with ⟨rfl, hv⟩ | ⟨rfl, hv⟩
      · by_cases h9 : 999 < tw B (pf nk nf w + 2 * q)
        · refine ⟨0, Or.inr ⟨rfl, fun z => absurd (z q hq) (by omega)⟩, ?_⟩
          simp only [fX0_profileOn_5, x_rcv, X.kinds es, bsm, if_neg kk, x_g10, s_g3 i1, s_tasteO i1 hw, ea, t2, p_taste i1 hw (show q < 6 by omega), if_neg n01, c_taste i1 hw (show q < 6 by omega), ct, k9, if_pos h9, fX0_profileOn_62, fX0_profileOn_63, nI_1]
        · refine ⟨1, Or.inl ⟨rfl, fun k hk => ?_⟩, ?_⟩
          · by_cases e : k = q
            · subst e; omega
            · exact hv k (by omega)
          · simp only [fX0_profileOn_5, x_rcv, X.kinds es, bsm, if_neg kk, x_g10, s_g3 i1, s_tasteO i1 hw, ea, t2, p_taste i1 hw (show q < 6 by omega), if_neg n01, c_taste i1 hw (show q < 6 by omega), ct, k9, if_neg h9, fX0_profileOn_62, fX0_profileOn_63, nI_1]
      · refine ⟨0, Or.inr ⟨rfl, hv⟩, ?_⟩
        simp only [fX0_profileOn_5, x_rcv, X.kinds es, bsm, if_neg kk, x_g10, s_g3 i1, s_tasteO i1 hw, ea, t2, p_taste i1 hw (show q < 6 by omega), if_true, fX0_profileOn_62, fX0_profileOn_63, nI_1]
    obtain ⟨fl', h1, h2⟩ := st
    obtain ⟨x', h3, rfl⟩ := fin fl' h1
    exact Or.inl ⟨_, h3, h2⟩
  · rintro n ⟨h, fl⟩ ⟨M2, rfl, hf, e2, e3⟩
    have kk := nI_le (Nat.le_refl nk) (show nk < 2 ^ 31 by omega)
    have es : SameH M M2 := ⟨by rw [e2]; exact e0.1, by rw [e2]; exact e0.2⟩
    exact ⟨M2, fl, by simp only [fX0_profileOn_5, x_rcv, X.kinds es, bsm, if_pos kk], hf, e2, e3⟩
theorem on_s (X : HX a M σ nk nf np pt vl vf vm) (e0 : SameH M M1) (Z : BA M1 B) (hw : w < 6) (hb : pf nk nf w + 2 * nk + nf < 1500) (fl0 : Int32) (h0 : fl0 = 1 ∨ fl0 = 0) : ∃ M2 fl, fX0_profileOn_73 K a FU (hp a M1) (nI w) (nI (pf nk nf w)) fl0 0 = some (hp a M2, fl) ∧ (fl = 1 ∧ (fl0 = 1 ∧ ∀ f, f < nf → B (pf nk nf w + 2 * nk + f) ≤ pt f) ∨ fl = 0 ∧ ¬ (fl0 = 1 ∧ ∀ f, f < nf → B (pf nk nf w + 2 * nk + f) ≤ pt f)) ∧ M2.2 = M1.2 ∧ ∀ o t, M2.1 o t = if o = sbo 1 + (9 + w) ∧ t < nf then nI (B (pf nk nf w + 2 * nk + t)) else M1.1 o t := by
  have b := X.bk
  have i1 : 1 < 22 := by omega
  refine lp1z (F := fun n (x : HS × Int32) k => fX0_profileOn_73 K a n x.1 (nI w) (nI (pf nk nf w)) x.2 k) (N := nf) (x := (hp a M1, fl0))
    (I := fun q x => ∃ M2, x.1 = hp a M2 ∧ (x.2 = 1 ∧ (fl0 = 1 ∧ ∀ f, f < q → B (pf nk nf w + 2 * nk + f) ≤ pt f) ∨ x.2 = 0 ∧ ¬ (fl0 = 1 ∧ ∀ f, f < nf → B (pf nk nf w + 2 * nk + f) ≤ pt f)) ∧ M2.2 = M1.2 ∧ ∀ o t, M2.1 o t = if o = sbo 1 + (9 + w) ∧ t < q then nI (B (pf nk nf w + 2 * nk + t)) else M1.1 o t)
    (P := fun r => ∃ M2 fl, r = some (hp a M2, fl) ∧ (fl = 1 ∧ (fl0 = 1 ∧ ∀ f, f < nf → B (pf nk nf w + 2 * nk + f) ≤ pt f) ∨ fl = 0 ∧ ¬ (fl0 = 1 ∧ ∀ f, f < nf → B (pf nk nf w + 2 * nk + f) ≤ pt f)) ∧ M2.2 = M1.2 ∧ ∀ o t, M2.1 o t = if o = sbo 1 + (9 + w) ∧ t < nf then nI (B (pf nk nf w + 2 * nk + t)) else M1.1 o t) (by omega) ⟨M1, rfl, by
      rcases h0 with rfl | rfl
      · exact Or.inl ⟨rfl, rfl, fun k hk => absurd hk (by omega)⟩
      · exact Or.inr ⟨rfl, fun z => absurd z.1 (by decide)⟩, rfl, fun o t => by rw [if_neg (by omega)]⟩ ?_ ?_
  · rintro n ⟨h, fl⟩ q hq ⟨M2, rfl, hf, e2, e3⟩
    have kk := nI_ge hq (show nf < 2 ^ 31 by omega)
    have es : SameH M M2 := ⟨by rw [e2]; exact e0.1, by rw [e2]; exact e0.2⟩
    have Z2 : BA M2 B := Z.to (by funext t; rw [e3, if_neg]; intro z; have : sbo 1 = 75 := rfl; omega)
    have ea : nI (pf nk nf w) + 2 * nI nk + nI q = nI (pf nk nf w + 2 * nk + q) := by rw [ki2, nI_mul, nI_add, nI_add]
    have t2 := Z2.at (K := K) (a := a) (k := pf nk nf w + 2 * nk + q) (by omega)
    have hl := (Z (pf nk nf w + 2 * nk + q) (by omega)).1
    obtain ⟨fa, ia, f1, f2, f3, f4⟩ := X.film K hq
    have vq := (X.v.2.2.2.1 q hq).2
    have hpt := X.v.2.2.1 q
    have k9 : (nI (pt q) < nI (B (pf nk nf w + 2 * nk + q))) = (pt q < B (pf nk nf w + 2 * nk + q)) := nI_ltE (by omega) (by omega)
    have es' : SameH M (mI M2 (sbo 1 + (9 + w)) q (nI (B (pf nk nf w + 2 * nk + q)))) := es
    have g1 := f1 _ es'
    have g2 := f2 _ es'
    have ct : (mI M2 (sbo 1 + (9 + w)) q (nI (B (pf nk nf w + 2 * nk + q)))).1 (sbo 1 + (9 + w)) q = nI (B (pf nk nf w + 2 * nk + q)) := mI_s
    have st : ∃ fl' : Int32, (fl' = 1 ∧ (fl0 = 1 ∧ ∀ f, f < q + 1 → B (pf nk nf w + 2 * nk + f) ≤ pt f) ∨ fl' = 0 ∧ ¬ (fl0 = 1 ∧ ∀ f, f < nf → B (pf nk nf w + 2 * nk + f) ≤ pt f)) ∧ fX0_profileOn_73 K a (n + 1) (hp a M2) (nI w) (nI (pf nk nf w)) fl (nI q) = fX0_profileOn_73 K a n (hp a (mI M2 (sbo 1 + (9 + w)) q (nI (B (pf nk nf w + 2 * nk + q))))) (nI w) (nI (pf nk nf w)) fl' (nI (q + 1)) := by
      rcases hf with ⟨rfl, hz, hv⟩ | ⟨rfl, hv⟩
      · by_cases h9 : pt q < B (pf nk nf w + 2 * nk + q)
        · refine ⟨0, Or.inr ⟨rfl, fun z => absurd (z.2 q hq) (by omega)⟩, ?_⟩
          simp only [fX0_profileOn_73, x_rcv, X.films es, X.kinds es, bsm, if_neg kk, x_g10, s_g4 i1, s_seenO i1 hw, ea, t2, p_seen i1 hw (show q < 8 by omega), if_neg n01, c_seen i1 hw (show q < 8 by omega), ct, g1, g2, vq, k9, if_pos h9, fX0_profileOn_141, fX0_profileOn_142, nI_1]
        · refine ⟨1, Or.inl ⟨rfl, hz, fun k hk => ?_⟩, ?_⟩
          · by_cases e : k = q
            · subst e; omega
            · exact hv k (by omega)
          · simp only [fX0_profileOn_73, x_rcv, X.films es, X.kinds es, bsm, if_neg kk, x_g10, s_g4 i1, s_seenO i1 hw, ea, t2, p_seen i1 hw (show q < 8 by omega), if_neg n01, c_seen i1 hw (show q < 8 by omega), ct, g1, g2, vq, k9, if_neg h9, fX0_profileOn_141, fX0_profileOn_142, nI_1]
      · refine ⟨0, Or.inr ⟨rfl, hv⟩, ?_⟩
        simp only [fX0_profileOn_73, x_rcv, X.films es, X.kinds es, bsm, if_neg kk, x_g10, s_g4 i1, s_seenO i1 hw, ea, t2, p_seen i1 hw (show q < 8 by omega), if_true, fX0_profileOn_141, fX0_profileOn_142, nI_1]
    obtain ⟨fl', h1, h2⟩ := st
    refine Or.inl ⟨(hp a (mI M2 (sbo 1 + (9 + w)) q (nI (B (pf nk nf w + 2 * nk + q)))), fl'), ⟨mI M2 (sbo 1 + (9 + w)) q (nI (B (pf nk nf w + 2 * nk + q))), rfl, h1, e2, fun o t => ?_⟩, h2⟩
    rw [mI_1, e3]
    by_cases h1 : o = sbo 1 + (9 + w) ∧ t = q
    · rw [if_pos h1, if_pos (by omega), h1.2]
    · rw [if_neg h1]
      by_cases h2 : o = sbo 1 + (9 + w) ∧ t < q
      · rw [if_pos h2, if_pos (by omega)]
      · rw [if_neg h2, if_neg (by omega)]
  · rintro n ⟨h, fl⟩ ⟨M2, rfl, hf, e2, e3⟩
    have kk := nI_le (Nat.le_refl nf) (show nf < 2 ^ 31 by omega)
    have es : SameH M M2 := ⟨by rw [e2]; exact e0.1, by rw [e2]; exact e0.2⟩
    have zz : zr fl = some fl := by
      rcases hf with ⟨h, -⟩ | ⟨h, -⟩
      · have h' : fl = 1 := h
        rw [h']; decide
      · have h' : fl = 0 := h
        rw [h']; decide
    exact ⟨M2, fl, by simp only [fX0_profileOn_73, x_rcv, X.films es, bsm, if_pos kk, zz], hf, e2, e3⟩
/-- a profile, taken on by the component -/
theorem on_pf (X : HX a M σ nk nf np pt vl vf vm) (e0 : SameH M M1) (Z : BA M1 B) (hw : w < 6) (hb : pf nk nf w + 2 * nk + nf < 1500) : ∃ M2 fl, fX0_profileOn K (hp a M1) a (nI w) (nI (pf nk nf w)) = some (hp a M2, fl) ∧ (fl = 1 ∧ VP B pt nk nf w ∨ fl = 0 ∧ ¬ VP B pt nk nf w) ∧ M2.2 = M1.2 ∧ ∀ o t, M2.1 o t = if o = sbo 1 + (2 + w) ∧ t < nk then nI (tw B (pf nk nf w + 2 * t)) else if o = sbo 1 + (9 + w) ∧ t < nf then nI (B (pf nk nf w + 2 * nk + t)) else M1.1 o t := by
  obtain ⟨M2, fl, h1, h2, h3, h4⟩ := on_t (K := K) X e0 Z hw (by omega)
  have es : SameH M M2 := ⟨by rw [h3]; exact e0.1, by rw [h3]; exact e0.2⟩
  have Z2 : BA M2 B := Z.to (by funext t; rw [h4, if_neg]; intro z; have : sbo 1 = 75 := rfl; omega)
  obtain ⟨M3, fl', g1, g2, g3, g4⟩ := on_s (K := K) X es Z2 hw hb fl (h2.elim (fun h => Or.inl h.1) (fun h => Or.inr h.1))
  refine ⟨M3, fl', by unfold fX0_profileOn; rw [h1, g1], ?_, g3.trans h3, fun o t => ?_⟩
  · rcases h2 with ⟨rfl, v⟩ | ⟨rfl, v⟩
    · rcases g2 with ⟨rfl, -, u⟩ | ⟨rfl, u⟩
      · exact Or.inl ⟨rfl, v, u⟩
      · exact Or.inr ⟨rfl, fun z => u ⟨rfl, z.2⟩⟩
    · rcases g2 with ⟨rfl, z, u⟩ | ⟨rfl, u⟩
      · exact absurd z (by decide)
      · exact Or.inr ⟨rfl, fun z => v z.1⟩
  · rw [g4, h4]
    have : sbo 1 = 75 := rfl
    by_cases q1 : o = sbo 1 + (2 + w) ∧ t < nk
    · rw [if_pos q1, if_neg (by omega), if_pos q1]
    · rw [if_neg q1, if_neg q1]
/-- the same profile at the twin -/
theorem onT_s (X : HX a M σ nk nf np pt vl vf vm) (Z : BT σ B) {q : Nat} (hb : q + nf < 1500) : (fX6_isProfileTold_50 σ FU (nI q) 0 = some 1 ∧ ∀ f, f < nf → B (q + f) ≤ pt f) ∨ (fX6_isProfileTold_50 σ FU (nI q) 0 = some 0 ∧ ¬ ∀ f, f < nf → B (q + f) ≤ pt f) := by
  have b := X.bk
  refine lp1z (F := fun n (_ : Unit) k => fX6_isProfileTold_50 σ n (nI q) k) (N := nf) (x := ()) (I := fun m _ => ∀ f, f < m → B (q + f) ≤ pt f) (P := fun r => (r = some 1 ∧ ∀ f, f < nf → B (q + f) ≤ pt f) ∨ (r = some 0 ∧ ¬ ∀ f, f < nf → B (q + f) ≤ pt f)) (by omega) (fun f hf => absurd hf (by omega)) ?_ ?_
  · intro n _ k hk hv
    have kk := nI_ge hk (show nf < 2 ^ 31 by omega)
    have po : fX6_partsOf σ (nI k) = some (nI (pt k)) := by
      simp only [fX6_partsOf, ki8, nI_add, tg42 (i := 8 + k) (by omega), bsm, (X.v.2.2.2.1 k hk).2]
    have hpt := X.v.2.2.1 k
    have hl := (Z (q + k) (by omega)).1
    have k9 : (nI (B (q + k)) ≤ nI (pt k)) = (B (q + k) ≤ pt k) := nI_leE (by omega) (by omega)
    by_cases h : B (q + k) ≤ pt k
    · refine Or.inl ⟨(), fun f hf => ?_, ?_⟩
      · by_cases e : f = k
        · subst e; exact h
        · exact hv f (by omega)
      · simp only [fX6_isProfileTold_50, X.filmM, bsm, if_neg kk, nI_add, Z.at (show q + k < 1600 by omega), po, k9, if_pos h, nI_1]
    · refine Or.inr (Or.inr ⟨?_, fun z => h (z k hk)⟩)
      simp only [fX6_isProfileTold_50, X.filmM, bsm, if_neg kk, nI_add, Z.at (show q + k < 1600 by omega), po, k9, if_neg h]
  · intro n _ hv
    have kk := nI_le (Nat.le_refl nf) (show nf < 2 ^ 31 by omega)
    exact Or.inl ⟨by simp only [fX6_isProfileTold_50, X.filmM, bsm, if_pos kk], hv⟩
theorem pfT (X : HX a M σ nk nf np pt vl vf vm) (w : Nat) : fX6_profileFrom σ (nI w) = some (nI (pf nk nf w)) := by
  simp only [fX6_profileFrom, X.kindM, X.filmM, bsm, ki2, ki3, nI_mul, nI_add, pf]
theorem onT_pf (X : HX a M σ nk nf np pt vl vf vm) (Z : BT σ B) (hb : pf nk nf w + 2 * nk + nf < 1500) : (fX6_isProfileTold σ (nI w) = some 1 ∧ VP B pt nk nf w) ∨ (fX6_isProfileTold σ (nI w) = some 0 ∧ ¬ VP B pt nk nf w) := by
  have b := X.bk
  have e : fX6_isProfileTold σ (nI w) = fX6_isProfileTold_8 σ FU (nI (pf nk nf w)) 0 := by
    simp only [fX6_isProfileTold, pfT X w, bsm]
  rw [e]
  refine lp1z (F := fun n (_ : Unit) k => fX6_isProfileTold_8 σ n (nI (pf nk nf w)) k) (N := nk) (x := ()) (I := fun m _ => ∀ k, k < m → tw B (pf nk nf w + 2 * k) ≤ 999) (P := fun r => (r = some 1 ∧ VP B pt nk nf w) ∨ (r = some 0 ∧ ¬ VP B pt nk nf w)) (by omega) (fun f hf => absurd hf (by omega)) ?_ ?_
  · intro n _ k hk hv
    have kk := nI_ge hk (show nk < 2 ^ 31 by omega)
    have hl := tw_le (Z (pf nk nf w + 2 * k) (by omega)).1 (Z (pf nk nf w + 2 * k + 1) (by omega)).1
    have ea : nI (pf nk nf w) + 2 * nI k = nI (pf nk nf w + 2 * k) := by rw [ki2, nI_mul, nI_add]
    have k9 : (nI (tw B (pf nk nf w + 2 * k)) ≤ (999 : Int32)) = (tw B (pf nk nf w + 2 * k) ≤ 999) := nI_leE (b := 999) (by omega) (by omega)
    by_cases h : tw B (pf nk nf w + 2 * k) ≤ 999
    · refine Or.inl ⟨(), fun f hf => ?_, ?_⟩
      · by_cases e : f = k
        · subst e; exact h
        · exact hv f (by omega)
      · simp only [fX6_isProfileTold_8, X.kindM, bsm, if_neg kk, ea, Z.two (show pf nk nf w + 2 * k + 1 < 1600 by omega), k9, if_pos h, nI_1]
    · refine Or.inr (Or.inr ⟨?_, fun z => h (z.1 k hk)⟩)
      simp only [fX6_isProfileTold_8, X.kindM, bsm, if_neg kk, ea, Z.two (show pf nk nf w + 2 * k + 1 < 1600 by omega), k9, if_neg h]
  · intro n _ hv
    have kk := nI_le (Nat.le_refl nk) (show nk < 2 ^ 31 by omega)
    have ea : nI (pf nk nf w) + 2 * nI nk = nI (pf nk nf w + 2 * nk) := by rw [ki2, nI_mul, nI_add]
    have e2 : fX6_isProfileTold_8 σ (n + 1) (nI (pf nk nf w)) (nI nk) = fX6_isProfileTold_50 σ FU (nI (pf nk nf w + 2 * nk)) 0 := by
      simp only [fX6_isProfileTold_8, X.kindM, bsm, if_pos kk, ea]
    rw [e2]
    rcases onT_s X Z (q := pf nk nf w + 2 * nk) (by omega) with ⟨h1, h2⟩ | ⟨h1, h2⟩
    · exact Or.inl ⟨h1, hv, h2⟩
    · exact Or.inr ⟨h1, fun z => h2 z.2⟩
/-- whom presses, what each saw: the component -/
theorem msk_a : ∀ p, p < 5 → ∀ m, m < 32 → m < 2 ^ p → nI m ||| nI (2 ^ p) = nI (m + 2 ^ p) := by decide +kernel
theorem msk_b : ∀ m, m < 32 → nI m ||| (0 : Int32) = nI m := by decide +kernel
theorem msk_c : ∀ p, p < 5 → ∀ m, m < 32 → m < 2 ^ p → ∀ q, q < 5 → (m + 2 ^ p) / 2 ^ q % 2 = (if q = p then 1 else m / 2 ^ q % 2) := by decide +kernel
theorem msk_d : ∀ p, p < 5 → ∀ m, m < 32 → m < 2 ^ p → ∀ q, q < 5 → p ≤ q → m / 2 ^ q % 2 = 0 := by decide +kernel
theorem msk_o (p : Nat) (hp : p < 5) (m : Nat) (hm : m < 32) (h : m < 2 ^ p) : nI m ||| nI (2 ^ p) = nI (m + 2 ^ p) ∧ nI m ||| (0 : Int32) = nI m ∧ ∀ q, q < 5 → (m + 2 ^ p) / 2 ^ q % 2 = (if q = p then 1 else m / 2 ^ q % 2) ∧ (p ≤ q → m / 2 ^ q % 2 = 0) := ⟨msk_a p hp m hm h, msk_b m hm, fun q hq => ⟨msk_c p hp m hm h q hq, msk_d p hp m hm h q hq⟩⟩
theorem on_pn (Z : BA M1 B) (hp' : p < 5) {q : Nat} (hq : q + 3 * p + 3 < 1500) (hm : M1.1 (sbo 1) 1 = nI m) (hm1 : m < 2 ^ p) : ∃ M2 fl m', fX0_personOn K (hp a M1) a (nI p) (nI (q + 3 * p)) = some (hp a M2, fl) ∧ (fl = 1 ∧ VQ B q p ∨ fl = 0 ∧ ¬ VQ B q p) ∧ M2 = mI (mI M1 (sbo 1) 1 (nI m')) (sbo 1 + 15) p (nI (tw B (q + 3 * p + 1))) ∧ m' < 2 ^ (p + 1) ∧ (B (q + 3 * p) ≤ 1 → m' / 2 ^ p % 2 = B (q + 3 * p) ∧ ∀ r, r < p → m' / 2 ^ r % 2 = m / 2 ^ r % 2) := by
  have i1 : 1 < 22 := by omega
  have hm32 : m < 32 := Nat.lt_of_lt_of_le hm1 (show 2 ^ p ≤ 2 ^ 5 from Nat.pow_le_pow_right (by omega) (by omega))
  obtain ⟨o1, o2, o3⟩ := msk_o p hp' m hm32 hm1
  have s75 : sbo 1 = 75 := rfl
  have h2 : 2 ^ (p + 1) = 2 ^ p + 2 ^ p := by rw [Nat.pow_succ]; omega
  have hl := (Z (q + 3 * p) (by omega)).1
  have hl2 := tw_le (Z (q + 3 * p + 1) (by omega)).1 (Z (q + 3 * p + 1 + 1) (by omega)).1
  have k1 : (nI (B (q + 3 * p)) = (1 : Int32)) = (B (q + 3 * p) = 1) := nI_eqE (b := 1) (by omega) (by omega)
  have k2 : ((2 : Int32) ≤ nI (B (q + 3 * p))) = (2 ≤ B (q + 3 * p)) := nI_leE (a := 2) (by omega) (by omega)
  have k9 : ((9999 : Int32) < nI (tw B (q + 3 * p + 1))) = (9999 < tw B (q + 3 * p + 1)) := nI_ltE (a := 9999) (by omega) (by omega)
  have go : ∀ (t2 : Int32) (m' : Nat), nI m ||| t2 = nI m' → ∃ fl, fX0_personOn_24 K a (hp a M1) (nI p) (nI (q + 3 * p)) (some (a + sbo 1)) (nI m) t2 = some (hp a (mI (mI M1 (sbo 1) 1 (nI m')) (sbo 1 + 15) p (nI (tw B (q + 3 * p + 1)))), fl) ∧ (fl = 1 ∧ VQ B q p ∨ fl = 0 ∧ ¬ VQ B q p) := by
    intro t2 m' e
    have Z2 : BA (mI M1 (sbo 1) 1 (nI m')) B := Z.to (mI_o (by omega))
    have Z3 : BA (mI (mI M1 (sbo 1) 1 (nI m')) (sbo 1 + 15) p (nI (tw B (q + 3 * p + 1)))) B := Z2.to (mI_o (by omega))
    have ct : (mI (mI M1 (sbo 1) 1 (nI m')) (sbo 1 + 15) p (nI (tw B (q + 3 * p + 1)))).1 (sbo 1 + 15) p = nI (tw B (q + 3 * p + 1)) := mI_s
    by_cases q1 : 2 ≤ B (q + 3 * p)
    · refine ⟨0, ?_, Or.inr ⟨rfl, fun z => absurd z.1 (by omega)⟩⟩
      simp only [fX0_personOn_24, e, s_p1 i1, bsm, x_g10, s_g5 i1, x_rcv, nI_1, Z2.two (K := K) (a := a) (show q + 3 * p + 1 + 1 < 1600 by omega), p_saw i1 hp', Z3.at (K := K) (a := a) (show q + 3 * p < 1600 by omega), k2, if_pos q1]
    · by_cases q2 : 9999 < tw B (q + 3 * p + 1)
      · refine ⟨0, ?_, Or.inr ⟨rfl, fun z => absurd z.2 (by omega)⟩⟩
        simp only [fX0_personOn_24, e, s_p1 i1, bsm, x_g10, s_g5 i1, x_rcv, nI_1, Z2.two (K := K) (a := a) (show q + 3 * p + 1 + 1 < 1600 by omega), p_saw i1 hp', Z3.at (K := K) (a := a) (show q + 3 * p < 1600 by omega), k2, if_neg q1, c_saw i1 hp', ct, k9, if_pos q2]
      · refine ⟨1, ?_, Or.inl ⟨rfl, by omega, by omega⟩⟩
        simp only [fX0_personOn_24, e, s_p1 i1, bsm, x_g10, s_g5 i1, x_rcv, nI_1, Z2.two (K := K) (a := a) (show q + 3 * p + 1 + 1 < 1600 by omega), p_saw i1 hp', Z3.at (K := K) (a := a) (show q + 3 * p < 1600 by omega), k2, if_neg q1, c_saw i1 hp', ct, k9, if_neg q2]
  by_cases q1 : B (q + 3 * p) = 1
  · obtain ⟨fl, g1, g2⟩ := go (nI (2 ^ p)) (m + 2 ^ p) o1
    refine ⟨_, fl, m + 2 ^ p, ?_, g2, rfl, by omega, fun _ => ⟨?_, fun r hr => ?_⟩⟩
    · simp only [fX0_personOn, x_g10, bsm, s_g1 i1, hm, x_rcv, Z.at (K := K) (a := a) (show q + 3 * p < 1600 by omega), k1, if_pos q1, shl1 p (by omega), g1]
    · rw [(o3 p hp').1, if_pos rfl, q1]
    · rw [(o3 r (by omega)).1, if_neg (by omega)]
  · obtain ⟨fl, g1, g2⟩ := go 0 m o2
    refine ⟨_, fl, m, ?_, g2, rfl, by omega, fun h => ⟨?_, fun r hr => rfl⟩⟩
    · simp only [fX0_personOn, x_g10, bsm, s_g1 i1, hm, x_rcv, Z.at (K := K) (a := a) (show q + 3 * p < 1600 by omega), k1, if_neg q1, g1]
    · rw [(o3 p hp').2 (Nat.le_refl p)]
      omega
end PON

/-! PLAIN LAW, a question meets a film -/
set_option maxRecDepth 100000
def qO (w : Nat) (t u : Option Nat) (f : Int64) (hs : Nat) : HE := .inr (18, [.int (nI w), va_rf t, va_rf u, .long f, .int (nI hs)])
/-- what the component has found against the twin's answer -/
def JR (w i : Nat) (f : Int64) (hs : Nat) (A : Int64) (nw : Nat) : Prop :=
  (w < 2 ∧ A = f ∧ (hs = 0 ∧ f = -1 ∨ hs = 1 ∧ ∃ k, k < 100 ∧ f = lN k)) ∨ (w = 2 ∧ (hs = 0 ∧ f = -1 ∧ A = 0 ∨ hs = 1 ∧ A = f ∧ ∃ k, k ≤ i ∧ f = lN k)) ∨ (w = 3 ∧ (hs = 0 ∧ A = 0 ∨ hs = 1 ∧ A = f)) ∨ (3 < w ∧ (hs = 0 ∧ nw = 1 ∧ A = 0 ∨ hs = 1 ∧ nw = 0 ∧ A = f))
def QK (σ σ' : MS) : Prop := σ'.2.2 = σ.2.2 ∧ (∀ k, k ≠ 100 → σ'.1 k = σ.1 k) ∧ ∀ k, k ≠ 99 → σ'.2.1 k = σ.2.1 k
section PME
variable {K : KE} {a i n k w b hs nw qa r : Nat} {M : CM} {σ σ' : MS} {f A v : Int64} {t u : Option Nat}
theorem mD_id {y : Nat} {e : Option HE} (h : M.2.2.2.1 y = e) : mD M y e = M := by
  have : va_up M.2.2.2.1 y e = M.2.2.2.1 := by
    funext z
    by_cases q : z = y
    · subst q; rw [up_s, h]
    · rw [up_n _ _ q]
  unfold mD
  rw [this]
theorem lN_m1 (h : k < 2 ^ 31) : ¬ lN k = (-1 : Int64) := fun q => by
  have := congrArg Int64.toInt q
  rw [lN_toInt h] at this
  have e : (-1 : Int64).toInt = -1 := by decide
  omega
theorem sL_s : (sL σ k v).2.1 k = v := by simp [sL, vp_updL]
theorem sL_n {j : Nat} (h : j ≠ k) : (sL σ k v).2.1 j = σ.2.1 j := by simp [sL, vp_updL, h]
theorem QK.ka : QK σ (sI σ 100 0) := ⟨rfl, fun k hk => sI_n hk, fun _ _ => rfl⟩
theorem QK.kb : QK σ (sI (sL σ 99 v) 100 0) := ⟨rfl, fun k hk => sI_n hk, fun k hk => sL_n hk⟩
theorem q65 (hy : ¬ inB a qa) (D0 : M.2.2.2.1 qa = some (qO w t u f hs)) (v : Int64) : fX21_meets_65 K qa (hp a M) v = some (hp a (mD M qa (some (qO w t u v 1)))) := by
  have p1 : pV (hp a M) (some qa) 18 3 (.long v) = some (hp a (mD M qa (some (qO w t u v hs)))) := d_pV hy D0 (Nat.le_of_ble_eq_true rfl)
  have D1 : (mD M qa (some (qO w t u v hs))).2.2.2.1 qa = some (qO w t u v hs) := D_s
  have p2 : pV (hp a (mD M qa (some (qO w t u v hs)))) (some qa) 18 4 (.int (1 : Int32)) = some (hp a (mD (mD M qa (some (qO w t u v hs))) qa (some (qO w t u v 1)))) := d_pV hy D1 (Nat.le_of_ble_eq_true rfl)
  rw [mD_mD] at p2
  simp only [fX21_meets_65, p1, bsm, p2]
theorem q139 (hy : ¬ inB a qa) (D0 : M.2.2.2.1 qa = some (qO w t u f hs)) (v : Int64) : fX21_meets_139 K qa (hp a M) v = some (hp a (mD M qa (some (qO w t u v 1)))) := q65 (K := K) hy D0 v
/-- tests -/
theorem stepT (hi : i < 100) (hw : w < 3) (hb : b < 2) (hy : ¬ inB a qa) (D0 : M.2.2.2.1 qa = some (qO w (some r) u f hs)) (hv : vHo K (hp a M) 64 (some r) (some (a + 13)) = some (nI b)) (J : JR w i f hs A nw) : ∃ f' hs' A', fX21_meets K (hp a M) qa (nI i) (some (a + 13)) = some (hp a (mD M qa (some (qO w (some r) u f' hs')))) ∧ (∀ σ, σ.2.1 99 = A → ∃ σ', fX6_qTakes σ (nI w) (lN b) (nI i) = some σ' ∧ σ'.2.1 99 = A' ∧ σ'.1 100 = 0 ∧ QK σ σ') ∧ JR w (i + 1) f' hs' A' 0 := by
  have g0 : gI K (hp a M) (some qa) 18 0 = some (nI w) := d_gI hy D0 rfl
  have g1 : gR K (hp a M) (some qa) 18 1 = some (some r) := d_gR (x := some r) hy D0 rfl
  have g3 : gL K (hp a M) (some qa) 18 3 = some f := d_gL hy D0 rfl
  have g4 : gI K (hp a M) (some qa) 18 4 = some (nI hs) := d_gI hy D0 rfl
  have m65 := fun v => q65 (K := K) hy D0 v
  have k3 : ((3 : Int32) ≤ nI w) = False := by rw [show (3 : Int32) = nI 3 from rfl, nI_leE (by omega) (by omega)]; exact eq_false (by omega)
  have i64 : (nI i).toInt64 = lN i := nI_64 (by omega)
  have hb' : b = 0 ∨ b = 1 := by omega
  have l0 : ¬ lN 0 = (1 : Int64) := by decide
  have l1 : lN 1 = (1 : Int64) := by decide
  have hw' : w = 0 ∨ w = 1 ∨ w = 2 := by omega
  rcases hb' with rfl | rfl
  · refine ⟨f, hs, A, ?_, fun σ hA => ⟨sI σ 100 0, ?_, hA, sI_s, QK.ka⟩, ?_⟩
    · rw [mD_id D0]
      simp only [fX21_meets, g0, bsm, k3, if_false, g1, hv]
      rfl
    · rcases hw' with rfl | rfl | rfl
      · simp only [fX6_qTakes, k3, if_false, if_neg l0, fX6_qTakes_15, fX6_qTakes_16, if_pos (show nI 0 = (0 : Int32) from rfl), if_true, fX6_qTakes_38, if_neg (show ¬ nI 0 = (1 : Int32) by decide), fX6_qTakes_55, if_neg (show ¬ nI 0 = (2 : Int32) by decide), fX6_qTakes_75, if_neg (show ¬ nI 0 = (3 : Int32) by decide), fX6_qTakes_90, if_pos (show nI 0 ≤ (3 : Int32) by decide), fX6_qTakes_133]
      · simp only [fX6_qTakes, k3, if_false, if_neg l0, fX6_qTakes_15, fX6_qTakes_16, if_neg (show ¬ nI 1 = (0 : Int32) by decide), if_true, fX6_qTakes_38, if_pos (show nI 1 = (1 : Int32) from rfl), fX6_qTakes_55, if_neg (show ¬ nI 1 = (2 : Int32) by decide), fX6_qTakes_75, if_neg (show ¬ nI 1 = (3 : Int32) by decide), fX6_qTakes_90, if_pos (show nI 1 ≤ (3 : Int32) by decide), fX6_qTakes_133]
      · simp only [fX6_qTakes, k3, if_false, if_neg l0, fX6_qTakes_15, fX6_qTakes_16, if_neg (show ¬ nI 2 = (0 : Int32) by decide), if_true, fX6_qTakes_38, if_neg (show ¬ nI 2 = (1 : Int32) by decide), fX6_qTakes_55, if_pos (show nI 2 = (2 : Int32) from rfl), fX6_qTakes_75, if_neg (show ¬ nI 2 = (3 : Int32) by decide), fX6_qTakes_90, if_pos (show nI 2 ≤ (3 : Int32) by decide), fX6_qTakes_133]
    · rcases J with h | ⟨h1, h2⟩ | h | h
      · exact Or.inl h
      · refine Or.inr (Or.inl ⟨h1, h2.imp id (fun ⟨x1, x2, k, x3, x4⟩ => ⟨x1, x2, k, by omega, x4⟩)⟩)
      · omega
      · omega
  · have n1 : ¬ nI 1 = (0 : Int32) := by decide
    rcases hw' with rfl | rfl | rfl
    · obtain ⟨-, hA, hJ⟩ : (0 < 2 ∧ A = f ∧ (hs = 0 ∧ f = -1 ∨ hs = 1 ∧ ∃ k, k < 100 ∧ f = lN k)) := by
        rcases J with h | h | h | h
        · exact h
        · omega
        · omega
        · omega
      have base : fX21_meets K (hp a M) qa (nI i) (some (a + 13)) = if nI hs = 0 then fX21_meets_63 K qa (hp a M) (nI i) else fX21_meets_65 K qa (hp a M) f := by
        simp only [fX21_meets, g0, bsm, k3, if_false, g1, hv, if_neg n1, if_neg (show ¬ nI 0 = (2 : Int32) by decide), if_pos (show nI 0 = (0 : Int32) from rfl), g4, g3]
      have tw : ∀ σ : MS, fX6_qTakes σ (nI 0) (lN 1) (nI i) = if σ.2.1 99 = (-1 : Int64) then some (sI (sL σ 99 (lN i)) 100 0) else some (sI σ 100 0) := fun σ => by
        simp only [fX6_qTakes, k3, if_false, if_pos l1, fX6_qTakes_16, if_pos (show nI 0 = (0 : Int32) from rfl), if_neg n01, fX6_qTakes_48, i64, fX6_qTakes_38, if_neg (show ¬ nI 0 = (1 : Int32) by decide), fX6_qTakes_55, if_neg (show ¬ nI 0 = (2 : Int32) by decide), fX6_qTakes_75, if_neg (show ¬ nI 0 = (3 : Int32) by decide), fX6_qTakes_90, if_pos (show nI 0 ≤ (3 : Int32) by decide), fX6_qTakes_133]
      rcases hJ with ⟨rfl, hf⟩ | ⟨rfl, k, hk, hf⟩
      · refine ⟨lN i, 1, lN i, by rw [base, if_pos (show nI 0 = (0 : Int32) from rfl)]; unfold fX21_meets_63; rw [i64, m65], fun σ h => ⟨sI (sL σ 99 (lN i)) 100 0, by rw [tw, if_pos (by rw [h, hA, hf])], sL_s, sI_s, QK.kb⟩, Or.inl ⟨by omega, rfl, Or.inr ⟨rfl, i, hi, rfl⟩⟩⟩
      · refine ⟨f, 1, A, by rw [base, if_neg (by decide), m65], fun σ h => ⟨sI σ 100 0, by rw [tw, if_neg (by rw [h, hA, hf]; exact lN_m1 (by omega))], h, sI_s, QK.ka⟩, Or.inl ⟨by omega, hA, Or.inr ⟨rfl, k, hk, hf⟩⟩⟩
    · have base : fX21_meets K (hp a M) qa (nI i) (some (a + 13)) = fX21_meets_63 K qa (hp a M) (nI i) := by
        simp only [fX21_meets, g0, bsm, k3, if_false, g1, hv, if_neg n1, if_neg (show ¬ nI 1 = (2 : Int32) by decide)]
      have tw : ∀ σ : MS, fX6_qTakes σ (nI 1) (lN 1) (nI i) = some (sI (sL σ 99 (lN i)) 100 0) := fun σ => by
        simp only [fX6_qTakes, k3, if_false, if_pos l1, fX6_qTakes_16, if_neg (show ¬ nI 1 = (0 : Int32) by decide), fX6_qTakes_38, if_pos (show nI 1 = (1 : Int32) from rfl), if_neg n01, fX6_qTakes_48, i64, fX6_qTakes_55, if_neg (show ¬ nI 1 = (2 : Int32) by decide), fX6_qTakes_75, if_neg (show ¬ nI 1 = (3 : Int32) by decide), fX6_qTakes_90, if_pos (show nI 1 ≤ (3 : Int32) by decide), fX6_qTakes_133]
      exact ⟨lN i, 1, lN i, by rw [base]; unfold fX21_meets_63; rw [i64, m65], fun σ h => ⟨_, tw σ, sL_s, sI_s, QK.kb⟩, Or.inl ⟨by omega, rfl, Or.inr ⟨rfl, i, hi, rfl⟩⟩⟩
    · obtain ⟨-, hJ⟩ : (2 = 2 ∧ (hs = 0 ∧ f = -1 ∧ A = 0 ∨ hs = 1 ∧ A = f ∧ ∃ k, k ≤ i ∧ f = lN k)) := by
        rcases J with h | h | h | h
        · omega
        · exact h
        · omega
        · omega
      have base : fX21_meets K (hp a M) qa (nI i) (some (a + 13)) = (fJ12_max_2 K (hp a M) 0 f).bind fun x27 => fX21_meets_65 K qa (hp a M) (x27 + (1 : Int64)) := by
        simp only [fX21_meets, g0, bsm, k3, if_false, g1, hv, if_neg n1, if_pos (show nI 2 = (2 : Int32) from rfl), g3]
      have tw : ∀ σ : MS, fX6_qTakes σ (nI 2) (lN 1) (nI i) = some (sI (sL σ 99 (σ.2.1 99 + 1)) 100 0) := fun σ => by
        simp only [fX6_qTakes, k3, if_false, if_pos l1, fX6_qTakes_16, if_neg (show ¬ nI 2 = (0 : Int32) by decide), fX6_qTakes_38, if_neg (show ¬ nI 2 = (1 : Int32) by decide), fX6_qTakes_55, if_pos (show nI 2 = (2 : Int32) from rfl), if_neg n01, fX6_qTakes_75, if_neg (show ¬ nI 2 = (3 : Int32) by decide), fX6_qTakes_90, if_pos (show nI 2 ≤ (3 : Int32) by decide), fX6_qTakes_133]
      rcases hJ with ⟨rfl, hf, hA⟩ | ⟨rfl, hA, k, hk, hf⟩
      · refine ⟨1, 1, 1, ?_, fun σ h => ⟨_, tw σ, by rw [show (sI (sL σ 99 (σ.2.1 99 + 1)) 100 0).2.1 99 = σ.2.1 99 + 1 from sL_s, h, hA]; decide, sI_s, QK.kb⟩, Or.inr (Or.inl ⟨rfl, Or.inr ⟨rfl, rfl, 1, by omega, rfl⟩⟩)⟩
        rw [base]
        have : fJ12_max_2 K (hp a M) 0 f = some 0 := by
          unfold fJ12_max_2
          rw [hf, if_neg (by decide)]
        rw [this, bsm]
        exact m65 _
      · refine ⟨lN (k + 1), 1, lN (k + 1), ?_, fun σ h => ⟨_, tw σ, by rw [show (sI (sL σ 99 (σ.2.1 99 + 1)) 100 0).2.1 99 = σ.2.1 99 + 1 from sL_s, h, hA, hf, lN_1], sI_s, QK.kb⟩, Or.inr (Or.inl ⟨rfl, Or.inr ⟨rfl, rfl, k + 1, by omega, rfl⟩⟩)⟩
        rw [base]
        have : fJ12_max_2 K (hp a M) 0 f = some (lN k) := by
          unfold fJ12_max_2
          by_cases z : (0 : Int64) < f
          · rw [if_pos z, hf]
          · rw [if_neg z]
            rw [l_lt, k0l, hf, lN_toInt (by omega)] at z
            have : k = 0 := by omega
            rw [this]
            rfl
        rw [this, bsm, lN_1]
        exact m65 _
/-- sums -/
theorem stepS (hw : 3 ≤ w) (hw6 : w < 6) (hy : ¬ inB a qa) (D0 : M.2.2.2.1 qa = some (qO w t (some r) f hs)) (hv : vAt K (hp a M) 64 (some r) (some (a + 13)) = some v) (J : JR w i f hs A nw) (x : Int32) : ∃ f' hs' A', fX21_meets K (hp a M) qa x (some (a + 13)) = some (hp a (mD M qa (some (qO w t (some r) f' hs')))) ∧ (∀ σ, σ.2.1 99 = A → σ.1 100 = nI nw → ∃ σ', fX6_qTakes σ (nI w) v x = some σ' ∧ σ'.2.1 99 = A' ∧ σ'.1 100 = 0 ∧ QK σ σ') ∧ JR w (i + 1) f' hs' A' 0 := by
  have g0 : gI K (hp a M) (some qa) 18 0 = some (nI w) := d_gI hy D0 rfl
  have g2 : gR K (hp a M) (some qa) 18 2 = some (some r) := d_gR (x := some r) hy D0 rfl
  have g3 : gL K (hp a M) (some qa) 18 3 = some f := d_gL hy D0 rfl
  have g4 : gI K (hp a M) (some qa) 18 4 = some (nI hs) := d_gI hy D0 rfl
  have m139 := fun v => q139 (K := K) hy D0 v
  have k3 : ((3 : Int32) ≤ nI w) = True := by rw [show (3 : Int32) = nI 3 from rfl, nI_leE (by omega) (by omega)]; exact eq_true hw
  have n1 : ¬ nI 1 = (0 : Int32) := by decide
  have hw' : w = 3 ∨ w = 4 ∨ w = 5 := by omega
  have base : fX21_meets K (hp a M) qa x (some (a + 13)) = if nI hs = 0 then fX21_meets_139 K qa (hp a M) v else if nI w = (3 : Int32) then fX21_meets_139 K qa (hp a M) (f + v) else if nI w = (4 : Int32) then (fJ12_max_2 K (hp a M) f v).bind fun x14 => fX21_meets_139 K qa (hp a M) x14 else (fJ12_min_2 K (hp a M) f v).bind fun x12 => fX21_meets_139 K qa (hp a M) x12 := by
    simp only [fX21_meets, g0, bsm, k3, if_true, g2, hv, g4, g3]
  rw [base]
  rcases hw' with rfl | rfl | rfl
  · obtain ⟨-, hJ⟩ : (3 = 3 ∧ (hs = 0 ∧ A = 0 ∨ hs = 1 ∧ A = f)) := by
      rcases J with h | h | h | h
      · omega
      · omega
      · exact h
      · omega
    have tw : ∀ σ : MS, fX6_qTakes σ (nI 3) v x = some (sI (sL σ 99 (σ.2.1 99 + v)) 100 0) := fun σ => by
      simp only [fX6_qTakes, k3, if_true, fX6_qTakes_15, fX6_qTakes_16, if_neg (show ¬ nI 3 = (0 : Int32) by decide), fX6_qTakes_38, if_neg (show ¬ nI 3 = (1 : Int32) by decide), fX6_qTakes_55, if_neg (show ¬ nI 3 = (2 : Int32) by decide), fX6_qTakes_75, if_pos (show nI 3 = (3 : Int32) from rfl), fX6_qTakes_90, if_pos (show nI 3 ≤ (3 : Int32) by decide), fX6_qTakes_133]
    rcases hJ with ⟨rfl, hA⟩ | ⟨rfl, hA⟩
    · refine ⟨v, 1, v, by rw [if_pos (show nI 0 = (0 : Int32) from rfl), m139], fun σ h _ => ⟨_, tw σ, by rw [show (sI (sL σ 99 (σ.2.1 99 + v)) 100 0).2.1 99 = σ.2.1 99 + v from sL_s, h, hA, Int64.zero_add], sI_s, QK.kb⟩, Or.inr (Or.inr (Or.inl ⟨rfl, Or.inr ⟨rfl, rfl⟩⟩))⟩
    · refine ⟨f + v, 1, f + v, by rw [if_neg n1, if_pos (show nI 3 = (3 : Int32) from rfl), m139], fun σ h _ => ⟨_, tw σ, by rw [show (sI (sL σ 99 (σ.2.1 99 + v)) 100 0).2.1 99 = σ.2.1 99 + v from sL_s, h, hA], sI_s, QK.kb⟩, Or.inr (Or.inr (Or.inl ⟨rfl, Or.inr ⟨rfl, rfl⟩⟩))⟩
  · obtain ⟨-, hJ⟩ : (3 < 4 ∧ (hs = 0 ∧ nw = 1 ∧ A = 0 ∨ hs = 1 ∧ nw = 0 ∧ A = f)) := by
      rcases J with h | h | h | h
      · omega
      · omega
      · omega
      · exact h
    have tw : ∀ σ : MS, fX6_qTakes σ (nI 4) v x = if σ.1 100 = 0 then if v ≤ σ.2.1 99 then some (sI σ 100 0) else some (sI (sL σ 99 v) 100 0) else some (sI (sL σ 99 v) 100 0) := fun σ => by
      simp only [fX6_qTakes, k3, if_true, fX6_qTakes_15, fX6_qTakes_16, if_neg (show ¬ nI 4 = (0 : Int32) by decide), fX6_qTakes_38, if_neg (show ¬ nI 4 = (1 : Int32) by decide), fX6_qTakes_55, if_neg (show ¬ nI 4 = (2 : Int32) by decide), fX6_qTakes_75, if_neg (show ¬ nI 4 = (3 : Int32) by decide), fX6_qTakes_90, if_neg (show ¬ nI 4 ≤ (3 : Int32) by decide), if_pos (show nI 4 = (4 : Int32) from rfl), fX6_qTakes_133, fX6_qTakes_128]
    rcases hJ with ⟨rfl, rfl, hA⟩ | ⟨rfl, rfl, hA⟩
    · exact ⟨v, 1, v, by rw [if_pos (show nI 0 = (0 : Int32) from rfl), m139], fun σ h h2 => ⟨sI (sL σ 99 v) 100 0, by rw [tw, if_neg (by rw [h2]; exact n1)], sL_s, sI_s, QK.kb⟩, Or.inr (Or.inr (Or.inr ⟨by omega, Or.inr ⟨rfl, rfl, rfl⟩⟩))⟩
    · by_cases z : f < v
      · have nz : ¬ v ≤ f := by rw [l_lt] at z; rw [l_le]; omega
        refine ⟨v, 1, v, ?_, fun σ h h2 => ⟨sI (sL σ 99 v) 100 0, by rw [tw, if_pos (by rw [h2]; rfl), if_neg (by rw [h, hA]; exact nz)], sL_s, sI_s, QK.kb⟩, Or.inr (Or.inr (Or.inr ⟨by omega, Or.inr ⟨rfl, rfl, rfl⟩⟩))⟩
        rw [if_neg n1, if_neg (by decide), if_pos (show nI 4 = (4 : Int32) from rfl)]
        unfold fJ12_max_2
        rw [if_pos z, bsm, m139]
      · have nz : v ≤ f := by rw [l_lt] at z; rw [l_le]; omega
        refine ⟨f, 1, A, ?_, fun σ h h2 => ⟨sI σ 100 0, by rw [tw, if_pos (by rw [h2]; rfl), if_pos (by rw [h, hA]; exact nz)], h, sI_s, QK.ka⟩, Or.inr (Or.inr (Or.inr ⟨by omega, Or.inr ⟨rfl, rfl, hA⟩⟩))⟩
        rw [if_neg n1, if_neg (by decide), if_pos (show nI 4 = (4 : Int32) from rfl)]
        unfold fJ12_max_2
        rw [if_neg z, bsm, m139]
  · obtain ⟨-, hJ⟩ : (3 < 5 ∧ (hs = 0 ∧ nw = 1 ∧ A = 0 ∨ hs = 1 ∧ nw = 0 ∧ A = f)) := by
      rcases J with h | h | h | h
      · omega
      · omega
      · omega
      · exact h
    have tw : ∀ σ : MS, fX6_qTakes σ (nI 5) v x = if σ.1 100 = 0 then if σ.2.1 99 ≤ v then some (sI σ 100 0) else some (sI (sL σ 99 v) 100 0) else some (sI (sL σ 99 v) 100 0) := fun σ => by
      simp only [fX6_qTakes, k3, if_true, fX6_qTakes_15, fX6_qTakes_16, if_neg (show ¬ nI 5 = (0 : Int32) by decide), fX6_qTakes_38, if_neg (show ¬ nI 5 = (1 : Int32) by decide), fX6_qTakes_55, if_neg (show ¬ nI 5 = (2 : Int32) by decide), fX6_qTakes_75, if_neg (show ¬ nI 5 = (3 : Int32) by decide), fX6_qTakes_90, if_neg (show ¬ nI 5 ≤ (3 : Int32) by decide), if_neg (show ¬ nI 5 = (4 : Int32) by decide), fX6_qTakes_133, fX6_qTakes_128]
    rcases hJ with ⟨rfl, rfl, hA⟩ | ⟨rfl, rfl, hA⟩
    · exact ⟨v, 1, v, by rw [if_pos (show nI 0 = (0 : Int32) from rfl), m139], fun σ h h2 => ⟨sI (sL σ 99 v) 100 0, by rw [tw, if_neg (by rw [h2]; exact n1)], sL_s, sI_s, QK.kb⟩, Or.inr (Or.inr (Or.inr ⟨by omega, Or.inr ⟨rfl, rfl, rfl⟩⟩))⟩
    · by_cases z : v < f
      · have nz : ¬ f ≤ v := by rw [l_lt] at z; rw [l_le]; omega
        refine ⟨v, 1, v, ?_, fun σ h h2 => ⟨sI (sL σ 99 v) 100 0, by rw [tw, if_pos (by rw [h2]; rfl), if_neg (by rw [h, hA]; exact nz)], sL_s, sI_s, QK.kb⟩, Or.inr (Or.inr (Or.inr ⟨by omega, Or.inr ⟨rfl, rfl, rfl⟩⟩))⟩
        rw [if_neg n1, if_neg (by decide), if_neg (by decide)]
        unfold fJ12_min_2
        rw [if_pos z, bsm, m139]
      · have nz : f ≤ v := by rw [l_lt] at z; rw [l_le]; omega
        refine ⟨f, 1, A, ?_, fun σ h h2 => ⟨sI σ 100 0, by rw [tw, if_pos (by rw [h2]; rfl), if_pos (by rw [h, hA]; exact nz)], h, sI_s, QK.ka⟩, Or.inr (Or.inr (Or.inr ⟨by omega, Or.inr ⟨rfl, rfl, hA⟩⟩))⟩
        rw [if_neg n1, if_neg (by decide), if_neg (by decide)]
        unfold fJ12_min_2
        rw [if_neg z, bsm, m139]
/-- the answer -/
theorem answer_o (hy : ¬ inB a qa) (hw : w < 6) (D0 : M.2.2.2.1 qa = some (qO w t u f hs)) (J : JR w i f hs A nw) : fX21_answer K (hp a M) qa = some A := by
  have g0 : gI K (hp a M) (some qa) 18 0 = some (nI w) := d_gI hy D0 rfl
  have g3 : gL K (hp a M) (some qa) 18 3 = some f := d_gL hy D0 rfl
  have g4 : gI K (hp a M) (some qa) 18 4 = some (nI hs) := d_gI hy D0 rfl
  have k2 : ((2 : Int32) ≤ nI w) = (2 ≤ w) := nI_leE (a := 2) (by omega) (by omega)
  have n1 : ¬ nI 1 = (0 : Int32) := by decide
  have n0 : nI 0 = (0 : Int32) := rfl
  rcases J with ⟨h1, h2, h3⟩ | ⟨h1, h3⟩ | ⟨h1, h3⟩ | ⟨h1, h3⟩
  · rcases h3 with ⟨rfl, h4⟩ | ⟨rfl, h4⟩
    · simp only [fX21_answer, g4, bsm, if_pos n0, g0, k2, if_neg (show ¬ 2 ≤ w by omega), fX21_answer_15, g3, h2]
    · simp only [fX21_answer, g4, bsm, if_neg n1, fX21_answer_15, g3, h2]
  · rcases h3 with ⟨rfl, h4, h5⟩ | ⟨rfl, h4, h5⟩
    · simp only [fX21_answer, g4, bsm, if_pos n0, g0, k2, if_pos (show 2 ≤ w by omega), h5]
    · simp only [fX21_answer, g4, bsm, if_neg n1, fX21_answer_15, g3, h4]
  · rcases h3 with ⟨rfl, h4⟩ | ⟨rfl, h4⟩
    · simp only [fX21_answer, g4, bsm, if_pos n0, g0, k2, if_pos (show 2 ≤ w by omega), h4]
    · simp only [fX21_answer, g4, bsm, if_neg n1, fX21_answer_15, g3, h4]
  · rcases h3 with ⟨rfl, h4, h5⟩ | ⟨rfl, h4, h5⟩
    · simp only [fX21_answer, g4, bsm, if_pos n0, g0, k2, if_pos (show 2 ≤ w by omega), h5]
    · simp only [fX21_answer, g4, bsm, if_neg n1, fX21_answer_15, g3, h5]
end PME

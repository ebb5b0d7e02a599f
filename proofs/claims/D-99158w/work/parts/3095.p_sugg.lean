/-! PLAIN LAW, what is suggested: both sides -/
set_option maxRecDepth 100000
section PSG
variable {K : KE} {a i j k f p w n o : Nat} {M M' M1 M2 : CM} {σ σ' σ1 σ2 : MS} {nk nf np hr : Nat} {pt : Nat → Nat} {vl vf vm : Option Nat}
theorem suggested_ok (X : HX a M σ nk nf np pt vl vf vm) (H : HTs K a M.2.2.2.1 σ vl vf vm) (hi : i < 22) (hp' : p < np) (S : SR M i (σ.2.2.1 54) np pt hr) : ∃ M' σ' v, fX5_suggested K (hp a M) (a + sbo i) (nI p) = some (hp a M', v) ∧ fX6_suggestedTo σ (nI p) = some (σ', v) ∧ MV M M' ∧ TV σ σ' ∧ (v = -1 ∨ ∃ f s, f < nf ∧ v = nI f ∧ s < pt f ∧ ∃ w, w ≤ np ∧ fX5_profile K (hp a M) (a + sbo i) (nI p) = some (nI w) ∧ σ.2.2.1 54 (2 + 14 * w + 6 + f) = nI s) := by
  have b := X.bk
  obtain ⟨m, m1, m2, m3, w, w1, w2, w3, w4⟩ := S.prof (a := a) K hi b.2.2 hp'
  simp only [fX5_suggested, s_rcv hi, w3, bsm, fX6_suggestedTo, w4]
  have ov : ∀ (M' : CM) (σ' : MS) (f : Nat), f < nf → MV M M' → TV σ σ' → ∃ M2 σ2 b, b < 2 ∧ fX5_may K (hp a M') (a + sbo i) (nI w) (nI f) = some (hp a M2, nI b) ∧ fX6_may σ' (nI w) (nI f) = some (σ2, nI b) ∧ MV M M2 ∧ TV σ σ2 := fun M' σ' f hf h1 h2 => by
    obtain ⟨M2, σ2, b, e1, e2, e3, e4, e5⟩ := may_ok (K := K) (X.to h1.same h2.up) (by rw [h1.same.2]; exact H.up h2.up) hi (show w < 6 by omega) hf (S.mv h1 h2 b.2.2)
    exact ⟨M2, σ2, b, e1, e2, e3, h1.tr e4, h2.tr e5⟩
  have sc : ∀ (M' : CM) (σ' : MS) (f : Nat), f < nf → MV M M' → TV σ σ' → fX5_score K (hp a M') (a + sbo i) (nI w) (nI f) = some (sv σ nk w f) ∧ fX6_scoreOf σ' (nI w) (nI f) = some (sv σ nk w f) := fun M' σ' f hf h1 h2 => by
    refine ⟨X.scoreC hi (show w < 6 by omega) hf h1.same (fun k hk => by rw [h1.1]; exact (S.2.2.1 w k (by omega) hk).1), ?_⟩
    rw [(X.to h1.same h2.up).scoreT (show w < 6 by omega) hf, sv_c (σ := σ) (σ' := σ') (by rw [h2.1]) (fun k _ => by rw [h2.1]) (by omega)]
  refine lp2z (F := fun n (x : HS × Int32) k => fX5_suggested_11 K (a + sbo i) n x.1 (nI w) x.2 k) (G := fun n (y : MS × Int32) k => fX6_suggestedTo_11 n y.1 (nI w) y.2 k) (N := nf) (x := (hp a M, -1)) (y := (σ, -1))
    (I := fun _ x y => ∃ M' σ' v, x = (hp a M', v) ∧ y = (σ', v) ∧ MV M M' ∧ TV σ σ' ∧ (v = -1 ∨ ∃ f s, f < nf ∧ v = nI f ∧ s < pt f ∧ σ.2.2.1 54 (2 + 14 * w + 6 + f) = nI s))
    (P := fun r r' => ∃ M' σ' v, r = some (hp a M', v) ∧ r' = some (σ', v) ∧ MV M M' ∧ TV σ σ' ∧ (v = -1 ∨ ∃ f s, f < nf ∧ v = nI f ∧ s < pt f ∧ ∃ w', w' ≤ np ∧ some (nI w) = some (nI w') ∧ σ.2.2.1 54 (2 + 14 * w' + 6 + f) = nI s)) (by omega) ⟨M, σ, -1, rfl, rfl, MV.refl M, TV.refl σ, Or.inl rfl⟩ ?_ ?_
  · rintro n m x y k hk ⟨M', σ', v, rfl, rfl, e1, e2, e3⟩
    refine Or.inl ?_
    obtain ⟨M2, σ2, bb, c1, c2, c3, c4, c5⟩ := ov M' σ' k hk e1 e2
    have kk := nI_ge hk (show nf < 2 ^ 31 by omega)
    have fc : fX0_films K (hp a M') a = some (nI nf) := X.films e1.same
    have ft : fX6_filmMany σ' = some (nI nf) := (X.to e1.same e2.up).filmM
    have hc : fX5_suggested_11 K (a + sbo i) (n + 1) (hp a M') (nI w) v (nI k) = (if nI bb = 0 then fX5_suggested_11 K (a + sbo i) n (hp a M2) (nI w) v (nI (k + 1)) else if v = -1 then fX5_suggested_11 K (a + sbo i) n (hp a M2) (nI w) (nI k) (nI (k + 1)) else (fX5_score K (hp a M2) (a + sbo i) (nI w) (nI k)).bind fun x10 => (fX5_score K (hp a M2) (a + sbo i) (nI w) v).bind fun x12 => if x10 ≤ x12 then fX5_suggested_11 K (a + sbo i) n (hp a M2) (nI w) v (nI (k + 1)) else fX5_suggested_11 K (a + sbo i) n (hp a M2) (nI w) (nI k) (nI (k + 1))) := by
      simp only [fX5_suggested_11, s_g10 hi, x_rcv, fc, bsm, if_neg kk, s_rcv hi, c2, fX5_suggested_54, fX5_suggested_57, nI_1]
    have ht : fX6_suggestedTo_11 (m + 1) σ' (nI w) v (nI k) = (if nI bb = 0 then fX6_suggestedTo_11 m σ2 (nI w) v (nI (k + 1)) else if v = -1 then fX6_suggestedTo_11 m σ2 (nI w) (nI k) (nI (k + 1)) else (fX6_scoreOf σ2 (nI w) (nI k)).bind fun x10 => (fX6_scoreOf σ2 (nI w) v).bind fun x12 => if x10 ≤ x12 then fX6_suggestedTo_11 m σ2 (nI w) v (nI (k + 1)) else fX6_suggestedTo_11 m σ2 (nI w) (nI k) (nI (k + 1))) := by
      simp only [fX6_suggestedTo_11, ft, bsm, if_neg kk, c3, fX6_suggestedTo_51, fX6_suggestedTo_54, nI_1]
    rcases (show bb = 0 ∨ bb = 1 by omega) with h | h <;> subst h
    · refine ⟨(hp a M2, v), (σ2, v), ⟨M2, σ2, v, rfl, rfl, c4, c5, e3⟩, ?_, ?_⟩
      · exact hc.trans (if_pos (by decide))
      · exact ht.trans (if_pos (by decide))
    · have nov : ∃ s, s < pt k ∧ σ.2.2.1 54 (2 + 14 * w + 6 + k) = nI s := by
        obtain ⟨s, s1, s2, o1, o2, o3⟩ := (X.to e1.same e2.up).over K hi (show w < 6 by omega) hk (S.mv e1 e2 b.2.2)
        refine ⟨s, ?_, by rw [← e2.1]; exact s2⟩
        by_cases hs : s = pt k
        · exfalso
          simp only [fX6_may, o2, o3, bsm, if_pos (congrArg nI hs)] at c3
          have z : (0 : Int32) = nI 1 := congrArg Prod.snd (Option.some.inj c3)
          exact absurd z (by decide)
        · omega
      obtain ⟨s, n1, n2⟩ := nov
      rw [if_neg (by decide)] at hc ht
      by_cases hv : v = -1
      · rw [if_pos hv] at hc ht
        exact ⟨(hp a M2, nI k), (σ2, nI k), ⟨M2, σ2, nI k, rfl, rfl, c4, c5, Or.inr ⟨k, s, hk, rfl, n1, n2⟩⟩, hc, ht⟩
      · obtain ⟨f, s', q1, q2, q3, q4⟩ := e3.resolve_left hv
        subst q2
        obtain ⟨r1, r2⟩ := sc M2 σ2 k hk c4 c5
        obtain ⟨r3, r4⟩ := sc M2 σ2 f q1 c4 c5
        rw [if_neg hv] at hc ht
        rw [r1, r3, bsm, bsm] at hc
        rw [r2, r4, bsm, bsm] at ht
        by_cases hl : sv σ nk w k ≤ sv σ nk w f
        · rw [if_pos hl] at hc ht
          exact ⟨(hp a M2, nI f), (σ2, nI f), ⟨M2, σ2, nI f, rfl, rfl, c4, c5, Or.inr ⟨f, s', q1, rfl, q3, q4⟩⟩, hc, ht⟩
        · rw [if_neg hl] at hc ht
          exact ⟨(hp a M2, nI k), (σ2, nI k), ⟨M2, σ2, nI k, rfl, rfl, c4, c5, Or.inr ⟨k, s, hk, rfl, n1, n2⟩⟩, hc, ht⟩
  · rintro n m x y ⟨M', σ', v, rfl, rfl, e1, e2, e3⟩
    have kk := nI_le (Nat.le_refl nf) (show nf < 2 ^ 31 by omega)
    have fc : fX0_films K (hp a M') a = some (nI nf) := X.films e1.same
    have ft : fX6_filmMany σ' = some (nI nf) := (X.to e1.same e2.up).filmM
    refine ⟨M', σ', v, ?_, ?_, e1, e2, ?_⟩
    · simp only [fX5_suggested_11, s_g10 hi, x_rcv, fc, bsm, if_pos kk]
    · simp only [fX6_suggestedTo_11, ft, bsm, if_pos kk]
    · rcases e3 with e3 | ⟨f, s, q1, q2, q3, q4⟩
      · exact Or.inl e3
      · exact Or.inr ⟨f, s, q1, q2, q3, w, w2, rfl, q4⟩
end PSG

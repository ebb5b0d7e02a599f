/-! HOUSE, a list of any capacity -/
set_option maxRecDepth 100000
section PLC
variable {K : KE} {a n : Nat} {M : CM} {el : Nat → Nat}
theorem lsNewC {c : Nat} (hc : c = 2 ∨ c = 4) (hb : a + 1352 ≤ szM M) (r1 : szM M + 2 ≤ K.2.2.1) (r2 : slM M + 3 + c ≤ K.2.2.2) : ∃ M1 M', alc K (hp a M) (.inr (19, df19)) 3 = some (hp a M1) ∧ fJ2_init K (hp a M1) (szM M) (nI c) = some (hp a M') ∧ LsX a M'.2.2.2.1 (szM M) (szM M + 1) 0 c el ∧ FX (fun _ => False) M M' ∧ szM M' = szM M + 2 ∧ slM M' = slM M + 3 + c := by
  have r1a : szM M + 1 ≤ K.2.2.1 := by omega
  have r2a : slM M + 3 ≤ K.2.2.2 := by omega
  have hy : ¬ inB a (szM M) := fun z => by have := z.2.1; omega
  obtain ⟨M1, hM1⟩ : ∃ M1, M1 = mA M (.inr (19, df19)) 3 := ⟨_, rfl⟩
  have s1 : szM M1 = szM M + 1 := by rw [hM1]; rfl
  have t1 : slM M1 = slM M + 3 := by rw [hM1]; rfl
  have D1 : M1.2.2.2.1 (szM M) = some (.inr (19, df19)) := by rw [hM1]; exact A_s
  obtain ⟨M2, hM2⟩ : ∃ M2, M2 = mD M1 (szM M) (some (.inr (19, [.int 0, .null, .int 0]))) := ⟨_, rfl⟩
  have p1 : pV (hp a M1) (some (szM M)) 19 0 (.int (0 : Int32)) = some (hp a M2) := by rw [hM2]; exact d_pV hy D1 (by decide)
  have hy2 : ¬ inB a (szM M2) := fun z => by
    have := z.2.1
    rw [hM2] at this
    have e : szM (mD M1 (szM M) (some (.inr (19, [.int 0, .null, .int 0])))) = szM M1 := rfl
    omega
  have s2 : szM M2 = szM M + 1 := by rw [hM2]; show szM M1 = _; omega
  have t2 : slM M2 = slM M + 3 := by rw [hM2]; show slM M1 = _; omega
  obtain ⟨M3, hM3⟩ : ∃ M3, M3 = mA M2 (rA 5 c (fun _ => none)) c := ⟨_, rfl⟩
  have na : nA K (hp a M2) 5 (.inr (.inr (.inr (.inr (fun _ => none))))) (nI c) = some (hp a M3) := by rw [hM3]; exact nA_r (n := c) hy2 (by omega) (by omega) (by omega)
  have D3 : M3.2.2.2.1 (szM M) = some (.inr (19, [.int 0, .null, .int 0])) := by rw [hM3, A_n (by show szM M ≠ szM M2; omega), hM2]; exact D_s
  have D3e : M3.2.2.2.1 (szM M + 1) = some (rA 5 c (fun _ => none)) := by rw [hM3, ← s2]; exact A_s
  have p4 : pV (hp a M3) (some (szM M)) 19 1 (va_rf (some (szM M2))) = some (hp a (mD M3 (szM M) (some (.inr (19, [.int 0, .ref (szM M2), .int 0]))))) := d_pV hy D3 (Nat.le_of_ble_eq_true rfl)
  have sz2 : (hp a M2).2.1 = szM M2 := rfl
  refine ⟨M1, mD M3 (szM M) (some (.inr (19, [.int 0, .ref (szM M2), .int 0]))), by rw [hM1]; exact d_al (M := M) hy r1a r2a, ?_, ⟨⟨hy, fun z => by have := z.2.1; omega⟩, ⟨0, fun _ => none, by rw [← s2]; exact D_s, ?_, fun j hj => absurd hj (by omega)⟩, by omega, by omega, by omega⟩, ?_, ?_, ?_⟩
  · have k1 : (nI c ≤ (0 : Int32)) = False := by rcases hc with rfl | rfl <;> decide
    simp only [fJ2_init, fJ1_init, fJ0_init, bsm, p1, k1, if_false, na, sz2, p4]
  · rw [D_n (by omega)]
    exact D3e
  · rw [hM3, hM2, hM1]
    exact ((((FX.refl _ M).mA).mD (fun q => absurd q (by omega))).mA).mD (fun q => absurd q (by omega))
  · rw [hM3]; show szM M2 + 1 = _; omega
  · rw [hM3]; show slM M2 + c = _; omega
end PLC

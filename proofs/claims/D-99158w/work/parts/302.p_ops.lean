/-! PLAIN LAW, the component's operations where the place is in range -/
set_option maxRecDepth 100000
section POPS
variable {K : KE} {a i k n w : Nat} {M : CM} {v : Int32}
theorem c_taste (hi : i < 22) (hw : w < 6) (hk : k < 6) : cI K (hp a M) (some (a + (sbo i + (2 + w)))) 0 (nI k) = some (M.1 (sbo i + (2 + w)) k) := z_cI (is_taste hi hw) hk
theorem p_taste (hi : i < 22) (hw : w < 6) (hk : k < 6) : sC (hp a M) (some (a + (sbo i + (2 + w)))) 0 (nI k) v = some (hp a (mI M (sbo i + (2 + w)) k v)) := z_sC (is_taste hi hw) hk
theorem c_seen (hi : i < 22) (hw : w < 6) (hk : k < 8) : cI K (hp a M) (some (a + (sbo i + (9 + w)))) 0 (nI k) = some (M.1 (sbo i + (9 + w)) k) := z_cI (is_seen hi hw) hk
theorem p_seen (hi : i < 22) (hw : w < 6) (hk : k < 8) : sC (hp a M) (some (a + (sbo i + (9 + w)))) 0 (nI k) v = some (hp a (mI M (sbo i + (9 + w)) k v)) := z_sC (is_seen hi hw) hk
theorem c_saw (hi : i < 22) (hk : k < 5) : cI K (hp a M) (some (a + (sbo i + 15))) 0 (nI k) = some (M.1 (sbo i + 15) k) := z_cI (is_saw hi) hk
theorem p_saw (hi : i < 22) (hk : k < 5) : sC (hp a M) (some (a + (sbo i + 15))) 0 (nI k) v = some (hp a (mI M (sbo i + 15) k v)) := z_sC (is_saw hi) hk
theorem c_row (hi : i < 22) (hw : w < 40) (hk : k < 4) : cI K (hp a M) (some (a + (sbo i + (17 + w)))) 0 (nI k) = some (M.1 (sbo i + (17 + w)) k) := z_cI (is_row hi hw) hk
theorem p_row (hi : i < 22) (hw : w < 40) (hk : k < 4) : sC (hp a M) (some (a + (sbo i + (17 + w)))) 0 (nI k) v = some (hp a (mI M (sbo i + (17 + w)) k v)) := z_sC (is_row hi hw) hk
theorem c_refd (hi : i < 22) (hk : k < 5) : cI K (hp a M) (some (a + (sbo i + 58))) 0 (nI k) = some (M.1 (sbo i + 58) k) := z_cI (is_refused hi) hk
theorem p_refd (hi : i < 22) (hk : k < 5) : sC (hp a M) (some (a + (sbo i + 58))) 0 (nI k) v = some (hp a (mI M (sbo i + 58) k v)) := z_sC (is_refused hi) hk
theorem c_tape  (hk : k < 1600) : cI K (hp a M) (some (a + 8)) 3 (nI k) = some (M.1 (8) k) := z_cI (is_8) hk
theorem p_tape  (hk : k < 1600) : sC (hp a M) (some (a + 8)) 3 (nI k) v = some (hp a (mI M (8) k v)) := z_sC (is_8) hk
theorem c_refs  (hk : k < 6) : cI K (hp a M) (some (a + 15)) 0 (nI k) = some (M.1 (15) k) := z_cI (is_15) hk
theorem p_refs  (hk : k < 6) : sC (hp a M) (some (a + 15)) 0 (nI k) v = some (hp a (mI M (15) k v)) := z_sC (is_15) hk
theorem c_rowH  (hk : k < 16) : cI K (hp a M) (some (a + 167)) 0 (nI k) = some (M.1 (167) k) := z_cI (is_167) hk
theorem p_rowH  (hk : k < 16) : sC (hp a M) (some (a + 167)) 0 (nI k) v = some (hp a (mI M (167) k v)) := z_sC (is_167) hk
theorem c_rowF  (hk : k < 16) : cI K (hp a M) (some (a + 168)) 0 (nI k) = some (M.1 (168) k) := z_cI (is_168) hk
theorem p_rowF  (hk : k < 16) : sC (hp a M) (some (a + 168)) 0 (nI k) v = some (hp a (mI M (168) k v)) := z_sC (is_168) hk
theorem c_rowS  (hk : k < 16) : cI K (hp a M) (some (a + 169)) 4 (nI k) = some (M.1 (169) k) := z_cI (is_169) hk
theorem p_rowS  (hk : k < 16) : sC (hp a M) (some (a + 169)) 4 (nI k) v = some (hp a (mI M (169) k v)) := z_sC (is_169) hk
theorem c_out  (hk : k < 139) : cI K (hp a M) (some (a + 1351)) 3 (nI k) = some (M.1 (1351) k) := z_cI (is_1351) hk
theorem p_out  (hk : k < 139) : sC (hp a M) (some (a + 1351)) 3 (nI k) v = some (hp a (mI M (1351) k v)) := z_sC (is_1351) hk
theorem c_pls (hi : i < 22) (hk : k < 5) : cL K (hp a M) (some (a + (sbo i + 57))) 1 (nI k) = some (M.2.1 (sbo i + 57) k) := z_cL (is_pleased hi) hk
theorem p_pls {u : Int64} (hi : i < 22) (hk : k < 5) : sCL (hp a M) (some (a + (sbo i + 57))) 1 (nI k) u = some (hp a (mL M (sbo i + 57) k u)) := z_sCL (is_pleased hi) hk
theorem c_by (hw : w < 32) (hk : k < 5) : cL K (hp a M) (some (a + (135 + w))) 1 (nI k) = some (M.2.1 (135 + w) k) := z_cL (is_by hw) hk
theorem p_by {u : Int64} (hw : w < 32) (hk : k < 5) : sCL (hp a M) (some (a + (135 + w))) 1 (nI k) u = some (hp a (mL M (135 + w) k u)) := z_sCL (is_by hw) hk
theorem c_mom  (hk : k < 8) : cL K (hp a M) (some (a + 12)) 1 (nI k) = some (M.2.1 12 k) := z_cL (is_12) hk
theorem p_mom {u : Int64}  (hk : k < 8) : sCL (hp a M) (some (a + 12)) 1 (nI k) u = some (hp a (mL M 12 k u)) := z_sCL (is_12) hk
theorem c_ask  (hk : k < 8) : cL K (hp a M) (some (a + 14)) 1 (nI k) = some (M.2.1 14 k) := z_cL (is_14) hk
theorem p_ask {u : Int64}  (hk : k < 8) : sCL (hp a M) (some (a + 14)) 1 (nI k) u = some (hp a (mL M 14 k u)) := z_sCL (is_14) hk
theorem c_rows (hi : i < 22) (hk : k < 40) : cR K (hp a M) (some (a + (sbo i + 16))) 8 (nI k) = some (M.2.2.1 (sbo i + 16) k) := z_cR (is_rows hi) hk
theorem c_kept (hk : k < 20) : cR K (hp a M) (some (a + 170)) 7 (nI k) = some (M.2.2.1 170 k) := z_cR is_170 hk
theorem okIn_row (hi : i < 22) (hw : w < 40) : okIn K (hp a M) 8 (some (a + (sbo i + (17 + w)))) = true := by
  have H := is_row (a := a) hi hw
  have q := hp_at (a := a) (M := M) H.1 H.2.1
  rw [H.2.2.2] at q
  simp [okIn, rd_s q, asgA]
theorem okIn_st (hi : i < 22) : okIn K (hp a M) 7 (some (a + sbo i)) = true := by
  have h1 := sbo_lt hi
  have q := hp_at (a := a) (M := M) (o := sbo i) (by omega) (by omega)
  rw [bld_s0 hi] at q
  simp [okIn, rd_s q, asgO]
theorem p_rows (hi : i < 22) (hk : k < 40) (hw : w < 40) : sCR K (hp a M) (some (a + (sbo i + 16))) 8 (nI k) (some (a + (sbo i + (17 + w)))) = some (hp a (mR M (sbo i + 16) k (some (a + (sbo i + (17 + w)))))) := z_sCR (is_rows hi) hk (okIn_row hi hw)
theorem p_kept (hk : k < 20) (hi : i < 22) : sCR K (hp a M) (some (a + 170)) 7 (nI k) (some (a + sbo i)) = some (hp a (mR M 170 k (some (a + sbo i)))) := z_sCR is_170 hk (okIn_st hi)
end POPS

/-! HOUSE, which statement: the hash of a word and the switch over it -/
set_option maxRecDepth 100000
def hsL : List Nat → Int32 → Int32
  | [], x => x
  | c :: l, x => hsL l (31 * x + nI c)
section PHS
variable {K : KE} {a i n q e y va k : Nat} {M M' : CM} {B : Nat → Nat} {w : List Nat}
theorem a255 : ∀ c, c < 256 → nI c &&& 255 = nI c := by decide +kernel
theorem hs_lp (n : Nat) : lp (fun k (x : Int32) => 31 * x + nI (B (q + k))) 0 n = hsF B q n := by
  induction n with
  | zero => rfl
  | succ n ih => simp only [lp, hsF, ih]
theorem hs_9 {f : Nat → Int32} (q1 : rd K (hp a M) va = some (iA 3 n f)) (hn : n ≤ 1600) (hf : ∀ i, i < n → f i = nI (B (q + i))) (hB : ∀ i, i < n → B (q + i) < 256) : fJ9_hashCode K (hp a M) (some va) = some (hsF B q n) := by
  have c1 : cN K (hp a M) (some va) 3 = some (nI n) := k_cN q1
  have c2 : ∀ k, k < n → cI K (hp a M) (some va) 3 (nI k) = some (nI (B (q + k))) := fun k hk => by rw [k_cI q1 hk (by omega), hf k hk]
  have c3 : ckA K (hp a M) (some va) 3 = some () := by
    unfold ckA
    simp only [q1]
    rfl
  by_cases z0 : n = 0
  · subst z0
    simp only [fJ9_hashCode, c1, bsm]
    rfl
  have k0 : ¬ nI n = (0 : Int32) := by rw [show (0 : Int32) = nI 0 from rfl, nI_eqE (by omega) (by omega)]; exact z0
  by_cases z1 : n = 1
  · subst z1
    have c0 : cI K (hp a M) (some va) 3 (0 : Int32) = some (nI (B (q + 0))) := c2 0 (by omega)
    simp only [fJ9_hashCode, c1, bsm, if_neg k0, if_pos (show nI 1 = (1 : Int32) from rfl), c0, a255 _ (hB 0 (by omega))]
    simp [hsF]
  have k1 : ¬ nI n = (1 : Int32) := by rw [show (1 : Int32) = nI 1 from rfl, nI_eqE (by omega) (by omega)]; exact z1
  have e0 : (0 : Int32) + nI n = nI n := Int32.zero_add _
  have lo : fJ10_signedHashCode_8 K (hp a M) FU 0 (some va) (nI n) 0 = some (hsF B q n) := by
    rw [← hs_lp n]
    refine lpF (F := fun m x i => fJ10_signedHashCode_8 K (hp a M) m x (some va) (nI n) i) (N := n) (g := fun k (x : Int32) => 31 * x + nI (B (q + k))) (r := some) (x := 0) (fun m k hk => ?_) (fun m => ?_) (FU_lt (by omega))
    · simp only [fJ10_signedHashCode_8, if_neg (nI_ge hk (show n < 2 ^ 31 by omega)), c2 k hk, bsm, a255 _ (hB k hk), nI_1, lp]
    · simp only [fJ10_signedHashCode_8, if_pos (nI_le (Nat.le_refl n) (show n < 2 ^ 31 by omega))]
  simp only [fJ9_hashCode, c1, bsm, if_neg k0, if_neg k1, fJ10_vectorizedHashCode, if_true, c3, fJ10_signedHashCode, e0, lo]
theorem hash_o (S : StO a M.2.2.2.1 B q e y) (hn : e - q ≤ 1600) (hB : ∀ i, i < e - q → B (q + i) < 256) : ∃ M', fJ6_hashCode K (hp a M) y = some (hp a M', hsF B q (e - q)) ∧ StO a M'.2.2.2.1 B q e y ∧ (M' = M ∨ ∃ e', M' = mD M y (some e')) := by
  have S0 := S
  obtain ⟨h1, va, f, hs, hz, h2, h3, h4, h5, h6⟩ := S
  have g0 : gR K (hp a M) (some y) 20 0 = some (some va) := d_gR (x := some va) h1 h3 rfl
  have g1 : gI K (hp a M) (some y) 20 1 = some 0 := d_gI h1 h3 rfl
  have g2 : gI K (hp a M) (some y) 20 2 = some hs := d_gI h1 h3 rfl
  have g3 : gI K (hp a M) (some y) 20 3 = some hz := d_gI h1 h3 rfl
  have x9 := hs_9 (K := K) (a := a) (d_rd h2 h4) hn h5 hB
  have ne : va ≠ y := fun z => by
    rw [z, h3] at h4
    cases h4
  obtain ⟨x, hx⟩ : ∃ x, x = hsF B q (e - q) := ⟨_, rfl⟩
  rw [← hx] at x9 h6 ⊢
  rcases h6 with ⟨rfl, rfl⟩ | ⟨rfl, h6⟩ | ⟨rfl, rfl, h6⟩
  · by_cases z : x = 0
    · have p : pV (hp a M) (some y) 20 3 (.int (1 : Int32)) = some (hp a (mD M y (some (.inr (20, [.ref va, .int 0, .int 0, .int 1]))))) := d_pV h1 h3 (Nat.le_of_ble_eq_true rfl)
      refine ⟨_, ?_, ⟨h1, va, f, 0, 1, h2, D_s, by rw [D_n ne]; exact h4, h5, by rw [← hx]; exact Or.inr (Or.inr ⟨rfl, rfl, z⟩)⟩, Or.inr ⟨_, rfl⟩⟩
      simp only [fJ6_hashCode, g2, bsm, if_true, g3, d_rcv (K := K) h1 h3, fJ6_isLatin1, if_neg n01, g1, g0, x9, fJ6_hashCode_40, if_pos z, p]
    · have p : pV (hp a M) (some y) 20 2 (.int x) = some (hp a (mD M y (some (.inr (20, [.ref va, .int 0, .int x, .int 0]))))) := d_pV h1 h3 (Nat.le_of_ble_eq_true rfl)
      refine ⟨_, ?_, ⟨h1, va, f, x, 0, h2, D_s, by rw [D_n ne]; exact h4, h5, by rw [← hx]; exact Or.inr (Or.inl ⟨rfl, z⟩)⟩, Or.inr ⟨_, rfl⟩⟩
      simp only [fJ6_hashCode, g2, bsm, if_true, g3, d_rcv (K := K) h1 h3, fJ6_isLatin1, if_neg n01, g1, g0, x9, fJ6_hashCode_40, if_neg z, p]
  · refine ⟨M, ?_, S0, Or.inl rfl⟩
    simp only [fJ6_hashCode, g2, bsm, if_neg h6]
  · refine ⟨M, ?_, S0, Or.inl rfl⟩
    simp only [fJ6_hashCode, g2, bsm, if_true, g3, if_neg n01, h6]
end PHS

/-! PLAIN LAW, the twin's operations where the place is in range; numbers -/
set_option maxRecDepth 100000
section PTW
variable {σ : MS} {k k' i j n : Nat} {v : Int32}
theorem aI_o (hL : mLen k = n) (hi : i < n) (hn : n < 2 ^ 31) : aI σ k (nI i) = some (σ.2.2.1 k i) := by
  unfold aI
  rw [nI_clamp (by omega), if_neg]
  rw [nI_lt0 (by omega), hL]
  simp
  omega
theorem aL_o (hL : mLen k = n) (hi : i < n) (hn : n < 2 ^ 31) : aL σ k (nI i) = some (σ.2.2.2 k i) := by
  unfold aL
  rw [nI_clamp (by omega), if_neg]
  rw [nI_lt0 (by omega), hL]
  simp
  omega
theorem aC_o (hT : mTy k = 4) (hL : mLen k = n) (hi : i < n) (hn : n < 2 ^ 31) : aC σ k (nI i) = some (σ.2.2.1 k i) := by
  unfold aC
  rw [nI_clamp (by omega), if_neg]
  rw [nI_lt0 (by omega), hL, hT]
  simp
  omega
theorem aX_o (hT : mTy k = 2) (hL : mLen k = n) (hi : i < n) (hn : n < 2 ^ 31) : aX σ k (nI i) = some (σ.2.2.1 k i) := by
  unfold aX
  rw [nI_clamp (by omega), if_neg]
  rw [nI_lt0 (by omega), hL, hT]
  simp
  omega
theorem tI_o (hL : mLen k = n) (hi : i < n) (hn : n < 2 ^ 31) : tI σ k (nI i) v = some (sA σ k i v) := by
  unfold tI
  rw [nI_clamp (by omega), if_neg]
  rw [nI_lt0 (by omega), hL]
  simp
  omega
theorem tL_o {v : Int64} (hL : mLen k = n) (hi : i < n) (hn : n < 2 ^ 31) : tL σ k (nI i) v = some (sB σ k i v) := by
  unfold tL
  rw [nI_clamp (by omega), if_neg]
  rw [nI_lt0 (by omega), hL]
  simp
  omega
theorem sA_1 : (sA σ k i v).1 = σ.1 := rfl
theorem sA_2 : (sA σ k i v).2.1 = σ.2.1 := rfl
theorem sA_4 : (sA σ k i v).2.2.2 = σ.2.2.2 := rfl
theorem sA_3 : (sA σ k i v).2.2.1 k' j = if k' = k ∧ j = i then v else σ.2.2.1 k' j := by
  simp only [sA, va_up]
  by_cases e : k' = k
  · subst e; simp [upd]
  · simp [e]
theorem sA_e : (sA σ k i v).2.2.1 k j = if j = i then v else σ.2.2.1 k j := by rw [sA_3]; simp
theorem sA_s : (sA σ k i v).2.2.1 k i = v := by rw [sA_e, if_pos rfl]
theorem sA_m (h : j ≠ i) : (sA σ k i v).2.2.1 k j = σ.2.2.1 k j := by rw [sA_e, if_neg h]
theorem sA_n (e : k' ≠ k) : (sA σ k i v).2.2.1 k' = σ.2.2.1 k' := by simp [sA, va_up, e]
theorem sB_1 {v : Int64} : (sB σ k i v).1 = σ.1 := rfl
theorem sB_2 {v : Int64} : (sB σ k i v).2.1 = σ.2.1 := rfl
theorem sB_3 {v : Int64} : (sB σ k i v).2.2.1 = σ.2.2.1 := rfl
theorem sB_4 {v : Int64} : (sB σ k i v).2.2.2 k' j = if k' = k ∧ j = i then v else σ.2.2.2 k' j := by
  simp only [sB, va_up]
  by_cases e : k' = k
  · subst e; simp [vp_updL]
  · simp [e]
theorem sB_e {v : Int64} : (sB σ k i v).2.2.2 k j = if j = i then v else σ.2.2.2 k j := by rw [sB_4]; simp
theorem sB_n {v : Int64} (e : k' ≠ k) : (sB σ k i v).2.2.2 k' = σ.2.2.2 k' := by simp [sB, va_up, e]
theorem sI_1 : (sI σ k v).1 k' = if k' = k then v else σ.1 k' := rfl
theorem sI_s : (sI σ k v).1 k = v := by rw [sI_1, if_pos rfl]
theorem sI_n (h : k' ≠ k) : (sI σ k v).1 k' = σ.1 k' := by rw [sI_1, if_neg h]
theorem sI_2 : (sI σ k v).2 = σ.2 := rfl
theorem sL_1 {v : Int64} : (sL σ k v).1 = σ.1 := rfl
theorem sL_2 {v : Int64} : (sL σ k v).2.1 k' = if k' = k then v else σ.2.1 k' := rfl
theorem sL_3 {v : Int64} : (sL σ k v).2.2 = σ.2.2 := rfl
theorem aI_sI {x : Int32} : aI (sI σ k v) j x = aI σ j x := rfl
theorem aL_sI {x : Int32} : aL (sI σ k v) j x = aL σ j x := rfl
theorem aI_sL {u : Int64} {x : Int32} : aI (sL σ k u) j x = aI σ j x := rfl
theorem aL_sL {u : Int64} {x : Int32} : aL (sL σ k u) j x = aL σ j x := rfl
theorem aI_sB {u : Int64} {x : Int32} : aI (sB σ k i u) j x = aI σ j x := rfl
theorem aL_sA {x : Int32} : aL (sA σ k i v) j x = aL σ j x := rfl
theorem aI_sA {x : Int32} (h : j ≠ k) : aI (sA σ k i v) j x = aI σ j x := by unfold aI; rw [sA_n h]
theorem aL_sB {u : Int64} {x : Int32} (h : j ≠ k) : aL (sB σ k i u) j x = aL σ j x := by unfold aL; rw [sB_n h]
theorem aC_sI {x : Int32} : aC (sI σ k v) j x = aC σ j x := rfl
theorem tg0 (hi : i < 1600) : aI σ 0 (nI i) = some (σ.2.2.1 0 i) := aI_o (n := 1600) rfl hi (by omega)
theorem tp0 (hi : i < 1600) : tI σ 0 (nI i) v = some (sA σ 0 i v) := tI_o (n := 1600) rfl hi (by omega)
theorem tg9 (hi : i < 6) : aI σ 9 (nI i) = some (σ.2.2.1 9 i) := aI_o (n := 6) rfl hi (by omega)
theorem tp9 (hi : i < 6) : tI σ 9 (nI i) v = some (sA σ 9 i v) := tI_o (n := 6) rfl hi (by omega)
theorem tg40 (hi : i < 6) : aI σ 40 (nI i) = some (σ.2.2.1 40 i) := aI_o (n := 6) rfl hi (by omega)
theorem tp40 (hi : i < 6) : tI σ 40 (nI i) v = some (sA σ 40 i v) := tI_o (n := 6) rfl hi (by omega)
theorem tg41 (hi : i < 48) : aL σ 41 (nI i) = some (σ.2.2.2 41 i) := aL_o (n := 48) rfl hi (by omega)
theorem tp41 {u : Int64} (hi : i < 48) : tL σ 41 (nI i) u = some (sB σ 41 i u) := tL_o (n := 48) rfl hi (by omega)
theorem tg42 (hi : i < 16) : aI σ 42 (nI i) = some (σ.2.2.1 42 i) := aI_o (n := 16) rfl hi (by omega)
theorem tp42 (hi : i < 16) : tI σ 42 (nI i) v = some (sA σ 42 i v) := tI_o (n := 16) rfl hi (by omega)
theorem tg43 (hi : i < 96) : aI σ 43 (nI i) = some (σ.2.2.1 43 i) := aI_o (n := 96) rfl hi (by omega)
theorem tp43 (hi : i < 96) : tI σ 43 (nI i) v = some (sA σ 43 i v) := tI_o (n := 96) rfl hi (by omega)
theorem tg44 (hi : i < 20) : aI σ 44 (nI i) = some (σ.2.2.1 44 i) := aI_o (n := 20) rfl hi (by omega)
theorem tp44 (hi : i < 20) : tI σ 44 (nI i) v = some (sA σ 44 i v) := tI_o (n := 20) rfl hi (by omega)
theorem tg45 (hi : i < 60) : aI σ 45 (nI i) = some (σ.2.2.1 45 i) := aI_o (n := 60) rfl hi (by omega)
theorem tp45 (hi : i < 60) : tI σ 45 (nI i) v = some (sA σ 45 i v) := tI_o (n := 60) rfl hi (by omega)
theorem tg47 (hi : i < 8) : aI σ 47 (nI i) = some (σ.2.2.1 47 i) := aI_o (n := 8) rfl hi (by omega)
theorem tp47 (hi : i < 8) : tI σ 47 (nI i) v = some (sA σ 47 i v) := tI_o (n := 8) rfl hi (by omega)
theorem tg48 (hi : i < 6) : aI σ 48 (nI i) = some (σ.2.2.1 48 i) := aI_o (n := 6) rfl hi (by omega)
theorem tp48 (hi : i < 6) : tI σ 48 (nI i) v = some (sA σ 48 i v) := tI_o (n := 6) rfl hi (by omega)
theorem tg49 (hi : i < 6) : aI σ 49 (nI i) = some (σ.2.2.1 49 i) := aI_o (n := 6) rfl hi (by omega)
theorem tp49 (hi : i < 6) : tI σ 49 (nI i) v = some (sA σ 49 i v) := tI_o (n := 6) rfl hi (by omega)
theorem tg50 (hi : i < 3200) : aI σ 50 (nI i) = some (σ.2.2.1 50 i) := aI_o (n := 3200) rfl hi (by omega)
theorem tp50 (hi : i < 3200) : tI σ 50 (nI i) v = some (sA σ 50 i v) := tI_o (n := 3200) rfl hi (by omega)
theorem tg54 (hi : i < 257) : aI σ 54 (nI i) = some (σ.2.2.1 54 i) := aI_o (n := 257) rfl hi (by omega)
theorem tp54 (hi : i < 257) : tI σ 54 (nI i) v = some (sA σ 54 i v) := tI_o (n := 257) rfl hi (by omega)
theorem tg55 (hi : i < 96) : aI σ 55 (nI i) = some (σ.2.2.1 55 i) := aI_o (n := 96) rfl hi (by omega)
theorem tp55 (hi : i < 96) : tI σ 55 (nI i) v = some (sA σ 55 i v) := tI_o (n := 96) rfl hi (by omega)
theorem tg61 (hi : i < 5) : aI σ 61 (nI i) = some (σ.2.2.1 61 i) := aI_o (n := 5) rfl hi (by omega)
theorem tp61 (hi : i < 5) : tI σ 61 (nI i) v = some (sA σ 61 i v) := tI_o (n := 5) rfl hi (by omega)
theorem tg62 (hi : i < 5) : aL σ 62 (nI i) = some (σ.2.2.2 62 i) := aL_o (n := 5) rfl hi (by omega)
theorem tp62 {u : Int64} (hi : i < 5) : tL σ 62 (nI i) u = some (sB σ 62 i u) := tL_o (n := 5) rfl hi (by omega)
theorem tg63 (hi : i < 5) : aI σ 63 (nI i) = some (σ.2.2.1 63 i) := aI_o (n := 5) rfl hi (by omega)
theorem tp63 (hi : i < 5) : tI σ 63 (nI i) v = some (sA σ 63 i v) := tI_o (n := 5) rfl hi (by omega)
theorem tg64 (hi : i < 160) : aL σ 64 (nI i) = some (σ.2.2.2 64 i) := aL_o (n := 160) rfl hi (by omega)
theorem tp64 {u : Int64} (hi : i < 160) : tL σ 64 (nI i) u = some (sB σ 64 i u) := tL_o (n := 160) rfl hi (by omega)
theorem tg66 (hi : i < 48) : aI σ 66 (nI i) = some (σ.2.2.1 66 i) := aI_o (n := 48) rfl hi (by omega)
theorem tp66 (hi : i < 48) : tI σ 66 (nI i) v = some (sA σ 66 i v) := tI_o (n := 48) rfl hi (by omega)
theorem tg67 (hi : i < 5140) : aI σ 67 (nI i) = some (σ.2.2.1 67 i) := aI_o (n := 5140) rfl hi (by omega)
theorem tp67 (hi : i < 5140) : tI σ 67 (nI i) v = some (sA σ 67 i v) := tI_o (n := 5140) rfl hi (by omega)
theorem tg91 (hi : i < 1700) : aI σ 91 (nI i) = some (σ.2.2.1 91 i) := aI_o (n := 1700) rfl hi (by omega)
theorem tp91 (hi : i < 1700) : tI σ 91 (nI i) v = some (sA σ 91 i v) := tI_o (n := 1700) rfl hi (by omega)
theorem tg93 (hi : i < 1700) : aI σ 93 (nI i) = some (σ.2.2.1 93 i) := aI_o (n := 1700) rfl hi (by omega)
theorem tp93 (hi : i < 1700) : tI σ 93 (nI i) v = some (sA σ 93 i v) := tI_o (n := 1700) rfl hi (by omega)
theorem tg97 (hi : i < 1700) : aL σ 97 (nI i) = some (σ.2.2.2 97 i) := aL_o (n := 1700) rfl hi (by omega)
theorem tp97 {u : Int64} (hi : i < 1700) : tL σ 97 (nI i) u = some (sB σ 97 i u) := tL_o (n := 1700) rfl hi (by omega)
theorem tg101 (hi : i < 139) : aI σ 101 (nI i) = some (σ.2.2.1 101 i) := aI_o (n := 139) rfl hi (by omega)
theorem tp101 (hi : i < 139) : tI σ 101 (nI i) v = some (sA σ 101 i v) := tI_o (n := 139) rfl hi (by omega)
end PTW
-- written numbers
theorem ki0 : (0 : Int32) = nI 0 := rfl
theorem ki1 : (1 : Int32) = nI 1 := rfl
theorem ki2 : (2 : Int32) = nI 2 := rfl
theorem ki3 : (3 : Int32) = nI 3 := rfl
theorem ki4 : (4 : Int32) = nI 4 := rfl
theorem ki5 : (5 : Int32) = nI 5 := rfl
theorem ki6 : (6 : Int32) = nI 6 := rfl
theorem ki7 : (7 : Int32) = nI 7 := rfl
theorem ki8 : (8 : Int32) = nI 8 := rfl
theorem ki9 : (9 : Int32) = nI 9 := rfl
theorem ki10 : (10 : Int32) = nI 10 := rfl
theorem ki11 : (11 : Int32) = nI 11 := rfl
theorem ki12 : (12 : Int32) = nI 12 := rfl
theorem ki13 : (13 : Int32) = nI 13 := rfl
theorem ki14 : (14 : Int32) = nI 14 := rfl
theorem ki15 : (15 : Int32) = nI 15 := rfl
theorem ki16 : (16 : Int32) = nI 16 := rfl
theorem ki20 : (20 : Int32) = nI 20 := rfl
theorem ki21 : (21 : Int32) = nI 21 := rfl
theorem ki22 : (22 : Int32) = nI 22 := rfl
theorem ki23 : (23 : Int32) = nI 23 := rfl
theorem ki24 : (24 : Int32) = nI 24 := rfl
theorem ki25 : (25 : Int32) = nI 25 := rfl
theorem ki30 : (30 : Int32) = nI 30 := rfl
theorem ki31 : (31 : Int32) = nI 31 := rfl
theorem ki32 : (32 : Int32) = nI 32 := rfl
theorem ki40 : (40 : Int32) = nI 40 := rfl
theorem ki41 : (41 : Int32) = nI 41 := rfl
theorem ki42 : (42 : Int32) = nI 42 := rfl
theorem ki43 : (43 : Int32) = nI 43 := rfl
theorem ki44 : (44 : Int32) = nI 44 := rfl
theorem ki45 : (45 : Int32) = nI 45 := rfl
theorem ki47 : (47 : Int32) = nI 47 := rfl
theorem ki48 : (48 : Int32) = nI 48 := rfl
theorem ki59 : (59 : Int32) = nI 59 := rfl
theorem ki60 : (60 : Int32) = nI 60 := rfl
theorem ki61 : (61 : Int32) = nI 61 := rfl
theorem ki62 : (62 : Int32) = nI 62 := rfl
theorem ki72 : (72 : Int32) = nI 72 := rfl
theorem ki86 : (86 : Int32) = nI 86 := rfl
theorem ki91 : (91 : Int32) = nI 91 := rfl
theorem ki93 : (93 : Int32) = nI 93 := rfl
theorem ki96 : (96 : Int32) = nI 96 := rfl
theorem ki97 : (97 : Int32) = nI 97 := rfl
theorem ki99 : (99 : Int32) = nI 99 := rfl
theorem ki100 : (100 : Int32) = nI 100 := rfl
theorem ki122 : (122 : Int32) = nI 122 := rfl
theorem ki253 : (253 : Int32) = nI 253 := rfl
theorem ki255 : (255 : Int32) = nI 255 := rfl
theorem ki256 : (256 : Int32) = nI 256 := rfl
theorem ki257 : (257 : Int32) = nI 257 := rfl
theorem ki999 : (999 : Int32) = nI 999 := rfl
theorem ki1000 : (1000 : Int32) = nI 1000 := rfl
theorem ki1600 : (1600 : Int32) = nI 1600 := rfl
theorem ki9999 : (9999 : Int32) = nI 9999 := rfl
theorem nI_mul (a b : Nat) : nI a * nI b = nI (a * b) := (Int32.ofNat_mul a b).symm
theorem nI_1' (a : Nat) : (1 : Int32) + nI a = nI (1 + a) := nI_add 1 a
theorem nI_sub {a b : Nat} (h : b ≤ a) : nI a - nI b = nI (a - b) := by
  have e : nI a = nI (a - b) + nI b := by rw [nI_add, Nat.sub_add_cancel h]
  rw [e]
  exact Int32.add_sub_cancel _ _
theorem nI_m1 {a : Nat} (h : 0 < a) : nI a - 1 = nI (a - 1) := nI_sub (b := 1) h
theorem nI_eq0 {a : Nat} (h : a < 2 ^ 31) : (nI a = 0) = (a = 0) := by
  rw [show (0 : Int32) = nI 0 from rfl, nI_eqE h (by omega)]
theorem nI_eqm {a : Nat} (h : a < 2 ^ 31) : (nI a = -1) = False := by
  apply eq_false
  intro q
  have := congrArg Int32.toInt q
  rw [nI_toInt h] at this
  have e : ((-1 : Int32)).toInt = -1 := by decide
  omega
theorem nI_le0 {a : Nat} (h : a < 2 ^ 31) : (nI a ≤ 0) = (a = 0) := by
  rw [show (0 : Int32) = nI 0 from rfl, nI_leE h (by omega)]
  exact propext ⟨fun q => by omega, fun q => by omega⟩
theorem nI_0le {a : Nat} (h : a < 2 ^ 31) : ((0 : Int32) ≤ nI a) = True := by
  rw [show (0 : Int32) = nI 0 from rfl, nI_leE (by omega) h]
  exact eq_true (Nat.zero_le a)

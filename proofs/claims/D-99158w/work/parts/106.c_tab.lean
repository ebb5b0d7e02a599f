/-! tables of the component's classes -/
set_option maxRecDepth 100000
def tyX19 : Nat → FieldType := fun _ => .int
theorem tyX19_ok : ∀ k, k < 0 → parseFieldDescriptor (TX19 k).2.2.1 = some (tyX19 k) := fun k h => absurd h (Nat.not_lt_zero k)
theorem df16_ok0 : ∀ j, j < 0 → defaultValue (tyX19 j) = vp_V ([] : List Value) j := fun j h => absurd h (Nat.not_lt_zero j)
theorem lw_l4 {a b c d : Cond} (h1 : a ∈ lw_all) (h2 : b ∈ lw_all) (h3 : c ∈ lw_all) (h4 : d ∈ lw_all) : ∀ w ∈ ([a, b, c, d] : List Cond), w ∈ lw_all := by
  intro w hw
  simp only [List.mem_cons, List.not_mem_nil, or_false] at hw
  rcases hw with e | e | e | e
  · rw [e]; exact h1
  · rw [e]; exact h2
  · rw [e]; exact h3
  · rw [e]; exact h4
theorem lw_l5 {a b c d f : Cond} (h1 : a ∈ lw_all) (h2 : b ∈ lw_all) (h3 : c ∈ lw_all) (h4 : d ∈ lw_all) (h5 : f ∈ lw_all) : ∀ w ∈ ([a, b, c, d, f] : List Cond), w ∈ lw_all := by
  intro w hw
  simp only [List.mem_cons, List.not_mem_nil, or_false] at hw
  rcases hw with e | e | e | e | e
  · rw [e]; exact h1
  · rw [e]; exact h2
  · rw [e]; exact h3
  · rw [e]; exact h4
  · rw [e]; exact h5
def df0 : List Value := [.null, .null, .int 0, .int 0, .int 0, .null, .null, .null, .null, .null, .null, .null, .null, .null, .null, .int 0, .null, .int 0, .long 0, .int 0, .null, .int 0]
theorem df0_ok : ∀ j, j < 22 → defaultValue (tyX0 j) = vp_V df0 j := by
  intro j hj
  match j, hj with
  | 0, _ => rfl
  | 1, _ => rfl
  | 2, _ => rfl
  | 3, _ => rfl
  | 4, _ => rfl
  | 5, _ => rfl
  | 6, _ => rfl
  | 7, _ => rfl
  | 8, _ => rfl
  | 9, _ => rfl
  | 10, _ => rfl
  | 11, _ => rfl
  | 12, _ => rfl
  | 13, _ => rfl
  | 14, _ => rfl
  | 15, _ => rfl
  | 16, _ => rfl
  | 17, _ => rfl
  | 18, _ => rfl
  | 19, _ => rfl
  | 20, _ => rfl
  | 21, _ => rfl
  | n + 22, hj => exact absurd hj (by omega)
def df1 : List Value := [.int 0, .int 0, .int 0, .int 0, .int 0, .int 0, .null, .null, .null, .null, .null, .null]
theorem df1_ok : ∀ j, j < 12 → defaultValue (tyX1 j) = vp_V df1 j := by
  intro j hj
  match j, hj with
  | 0, _ => rfl
  | 1, _ => rfl
  | 2, _ => rfl
  | 3, _ => rfl
  | 4, _ => rfl
  | 5, _ => rfl
  | 6, _ => rfl
  | 7, _ => rfl
  | 8, _ => rfl
  | 9, _ => rfl
  | 10, _ => rfl
  | 11, _ => rfl
  | n + 12, hj => exact absurd hj (by omega)
def df2 : List Value := [.null, .int 0, .int 0, .int 0, .int 0, .int 0, .null, .null]
theorem df2_ok : ∀ j, j < 8 → defaultValue (tyX2 j) = vp_V df2 j := by
  intro j hj
  match j, hj with
  | 0, _ => rfl
  | 1, _ => rfl
  | 2, _ => rfl
  | 3, _ => rfl
  | 4, _ => rfl
  | 5, _ => rfl
  | 6, _ => rfl
  | 7, _ => rfl
  | n + 8, hj => exact absurd hj (by omega)
def df3 : List Value := [.null, .null, .null, .null, .null, .int 0, .int 0, .int 0]
theorem df3_ok : ∀ j, j < 8 → defaultValue (tyX3 j) = vp_V df3 j := by
  intro j hj
  match j, hj with
  | 0, _ => rfl
  | 1, _ => rfl
  | 2, _ => rfl
  | 3, _ => rfl
  | 4, _ => rfl
  | 5, _ => rfl
  | 6, _ => rfl
  | 7, _ => rfl
  | n + 8, hj => exact absurd hj (by omega)
def df4 : List Value := [.null]
theorem df4_ok : ∀ j, j < 1 → defaultValue (tyX4 j) = vp_V df4 j := by
  intro j hj
  match j, hj with
  | 0, _ => rfl
  | n + 1, hj => exact absurd hj (by omega)
def df5 : List Value := [.int 0, .int 0, .int 0, .null, .null, .null, .null, .null, .null, .int 0, .null]
theorem df5_ok : ∀ j, j < 11 → defaultValue (tyX5 j) = vp_V df5 j := by
  intro j hj
  match j, hj with
  | 0, _ => rfl
  | 1, _ => rfl
  | 2, _ => rfl
  | 3, _ => rfl
  | 4, _ => rfl
  | 5, _ => rfl
  | 6, _ => rfl
  | 7, _ => rfl
  | 8, _ => rfl
  | 9, _ => rfl
  | 10, _ => rfl
  | n + 11, hj => exact absurd hj (by omega)
def df6 : List Value := [.null]
theorem df6_ok : ∀ j, j < 1 → defaultValue (tyX7 j) = vp_V df6 j := by
  intro j hj
  match j, hj with
  | 0, _ => rfl
  | n + 1, hj => exact absurd hj (by omega)
def df7 : List Value := [.null, .int 0, .null]
theorem df7_ok : ∀ j, j < 3 → defaultValue (tyX8 j) = vp_V df7 j := by
  intro j hj
  match j, hj with
  | 0, _ => rfl
  | 1, _ => rfl
  | 2, _ => rfl
  | n + 3, hj => exact absurd hj (by omega)
def df8 : List Value := [.null, .int 0, .int 0, .null]
theorem df8_ok : ∀ j, j < 4 → defaultValue (tyX9 j) = vp_V df8 j := by
  intro j hj
  match j, hj with
  | 0, _ => rfl
  | 1, _ => rfl
  | 2, _ => rfl
  | 3, _ => rfl
  | n + 4, hj => exact absurd hj (by omega)
def df9 : List Value := [.null, .null]
theorem df9_ok : ∀ j, j < 2 → defaultValue (tyX11 j) = vp_V df9 j := by
  intro j hj
  match j, hj with
  | 0, _ => rfl
  | 1, _ => rfl
  | n + 2, hj => exact absurd hj (by omega)
def df10 : List Value := [.int 0, .null, .null]
theorem df10_ok : ∀ j, j < 3 → defaultValue (tyX12 j) = vp_V df10 j := by
  intro j hj
  match j, hj with
  | 0, _ => rfl
  | 1, _ => rfl
  | 2, _ => rfl
  | n + 3, hj => exact absurd hj (by omega)
def df11 : List Value := [.long 0]
theorem df11_ok : ∀ j, j < 1 → defaultValue (tyX13 j) = vp_V df11 j := by
  intro j hj
  match j, hj with
  | 0, _ => rfl
  | n + 1, hj => exact absurd hj (by omega)
def df12 : List Value := [.int 0]
theorem df12_ok : ∀ j, j < 1 → defaultValue (tyX14 j) = vp_V df12 j := by
  intro j hj
  match j, hj with
  | 0, _ => rfl
  | n + 1, hj => exact absurd hj (by omega)
def df13 : List Value := [.int 0, .null, .null]
theorem df13_ok : ∀ j, j < 3 → defaultValue (tyX15 j) = vp_V df13 j := by
  intro j hj
  match j, hj with
  | 0, _ => rfl
  | 1, _ => rfl
  | 2, _ => rfl
  | n + 3, hj => exact absurd hj (by omega)
def df14 : List Value := [.null, .int 0]
theorem df14_ok : ∀ j, j < 2 → defaultValue (tyX17 j) = vp_V df14 j := by
  intro j hj
  match j, hj with
  | 0, _ => rfl
  | 1, _ => rfl
  | n + 2, hj => exact absurd hj (by omega)
def df15 : List Value := [.null]
theorem df15_ok : ∀ j, j < 1 → defaultValue (tyX18 j) = vp_V df15 j := by
  intro j hj
  match j, hj with
  | 0, _ => rfl
  | n + 1, hj => exact absurd hj (by omega)
def df16 : List Value := []
def df17 : List Value := [.null, .null, .int 0]
theorem df17_ok : ∀ j, j < 3 → defaultValue (tyX20 j) = vp_V df17 j := by
  intro j hj
  match j, hj with
  | 0, _ => rfl
  | 1, _ => rfl
  | 2, _ => rfl
  | n + 3, hj => exact absurd hj (by omega)
def df18 : List Value := [.int 0, .null, .null, .long 0, .int 0]
theorem df18_ok : ∀ j, j < 5 → defaultValue (tyX21 j) = vp_V df18 j := by
  intro j hj
  match j, hj with
  | 0, _ => rfl
  | 1, _ => rfl
  | 2, _ => rfl
  | 3, _ => rfl
  | 4, _ => rfl
  | n + 5, hj => exact absurd hj (by omega)
def df19 : List Value := [.int 0, .null, .int 0]
theorem df19_ok : ∀ j, j < 3 → defaultValue (tyJ2 j) = vp_V df19 j := by
  intro j hj
  match j, hj with
  | 0, _ => rfl
  | 1, _ => rfl
  | 2, _ => rfl
  | n + 3, hj => exact absurd hj (by omega)
def df20 : List Value := [.null, .int 0, .int 0, .int 0]
theorem df20_ok : ∀ j, j < 4 → defaultValue (tyJ6 j) = vp_V df20 j := by
  intro j hj
  match j, hj with
  | 0, _ => rfl
  | 1, _ => rfl
  | 2, _ => rfl
  | 3, _ => rfl
  | n + 4, hj => exact absurd hj (by omega)
def df21 : List Value := [.null, .int 0, .int 0, .int 0]
theorem df21_ok : ∀ j, j < 4 → defaultValue (tyJ15 j) = vp_V df21 j := by
  intro j hj
  match j, hj with
  | 0, _ => rfl
  | 1, _ => rfl
  | 2, _ => rfl
  | 3, _ => rfl
  | n + 4, hj => exact absurd hj (by omega)
def df22 : List Value := [.null, .int 0, .int 0, .int 0, .int 0, .int 0, .int 0, .int 0, .int 0, .null, .null, .null, .null, .null, .null, .null, .null, .null, .null, .null, .null, .null, .null, .null, .null, .null, .null, .null, .null, .null, .null, .null, .null, .null, .null, .null, .null, .null, .null, .int 0, .null, .null, .null, .null, .null, .null, .int 0, .null, .null, .null, .null, .int 0, .int 0, .int 0, .null, .null, .int 0, .int 0, .int 0, .int 0, .int 0, .null, .null, .null, .null, .int 0, .null, .null, .int 0, .int 0, .long 0, .null, .null, .null, .null, .null, .null, .null, .null, .null, .null, .null, .null, .null, .null, .null, .null, .null, .null, .null, .null, .null, .int 0, .null, .int 0, .int 0, .int 0, .null, .int 0, .long 0, .int 0, .null, .int 0]
theorem df22_ok : ∀ j, j < 103 → defaultValue (tyX6 j) = vp_V df22 j := by
  intro j hj
  match j, hj with
  | 0, _ => rfl
  | 1, _ => rfl
  | 2, _ => rfl
  | 3, _ => rfl
  | 4, _ => rfl
  | 5, _ => rfl
  | 6, _ => rfl
  | 7, _ => rfl
  | 8, _ => rfl
  | 9, _ => rfl
  | 10, _ => rfl
  | 11, _ => rfl
  | 12, _ => rfl
  | 13, _ => rfl
  | 14, _ => rfl
  | 15, _ => rfl
  | 16, _ => rfl
  | 17, _ => rfl
  | 18, _ => rfl
  | 19, _ => rfl
  | 20, _ => rfl
  | 21, _ => rfl
  | 22, _ => rfl
  | 23, _ => rfl
  | 24, _ => rfl
  | 25, _ => rfl
  | 26, _ => rfl
  | 27, _ => rfl
  | 28, _ => rfl
  | 29, _ => rfl
  | 30, _ => rfl
  | 31, _ => rfl
  | 32, _ => rfl
  | 33, _ => rfl
  | 34, _ => rfl
  | 35, _ => rfl
  | 36, _ => rfl
  | 37, _ => rfl
  | 38, _ => rfl
  | 39, _ => rfl
  | 40, _ => rfl
  | 41, _ => rfl
  | 42, _ => rfl
  | 43, _ => rfl
  | 44, _ => rfl
  | 45, _ => rfl
  | 46, _ => rfl
  | 47, _ => rfl
  | 48, _ => rfl
  | 49, _ => rfl
  | 50, _ => rfl
  | 51, _ => rfl
  | 52, _ => rfl
  | 53, _ => rfl
  | 54, _ => rfl
  | 55, _ => rfl
  | 56, _ => rfl
  | 57, _ => rfl
  | 58, _ => rfl
  | 59, _ => rfl
  | 60, _ => rfl
  | 61, _ => rfl
  | 62, _ => rfl
  | 63, _ => rfl
  | 64, _ => rfl
  | 65, _ => rfl
  | 66, _ => rfl
  | 67, _ => rfl
  | 68, _ => rfl
  | 69, _ => rfl
  | 70, _ => rfl
  | 71, _ => rfl
  | 72, _ => rfl
  | 73, _ => rfl
  | 74, _ => rfl
  | 75, _ => rfl
  | 76, _ => rfl
  | 77, _ => rfl
  | 78, _ => rfl
  | 79, _ => rfl
  | 80, _ => rfl
  | 81, _ => rfl
  | 82, _ => rfl
  | 83, _ => rfl
  | 84, _ => rfl
  | 85, _ => rfl
  | 86, _ => rfl
  | 87, _ => rfl
  | 88, _ => rfl
  | 89, _ => rfl
  | 90, _ => rfl
  | 91, _ => rfl
  | 92, _ => rfl
  | 93, _ => rfl
  | 94, _ => rfl
  | 95, _ => rfl
  | 96, _ => rfl
  | 97, _ => rfl
  | 98, _ => rfl
  | 99, _ => rfl
  | 100, _ => rfl
  | 101, _ => rfl
  | 102, _ => rfl
  | n + 103, hj => exact absurd hj (by omega)
theorem cast_Film : ∀ ci ∈ ([7] : List Nat), ∃ q : vw_C, CL[ci]? = some q ∧ (Cond.castable q.1 "FourOnOne$Film" ∈ lw_tbl ∨ q.1 = "FourOnOne$Film") := by
  intro ci h
  simp only [List.mem_cons, List.not_mem_nil, or_false] at h
  subst h
  · exact ⟨_, rfl, Or.inr rfl⟩
theorem cast_Person : ∀ ci ∈ ([8] : List Nat), ∃ q : vw_C, CL[ci]? = some q ∧ (Cond.castable q.1 "FourOnOne$Person" ∈ lw_tbl ∨ q.1 = "FourOnOne$Person") := by
  intro ci h
  simp only [List.mem_cons, List.not_mem_nil, or_false] at h
  subst h
  · exact ⟨_, rfl, Or.inr rfl⟩
theorem cast_Named : ∀ ci ∈ ([6, 7, 8] : List Nat), ∃ q : vw_C, CL[ci]? = some q ∧ (Cond.castable q.1 "FourOnOne$Named" ∈ lw_tbl ∨ q.1 = "FourOnOne$Named") := by
  intro ci h
  simp only [List.mem_cons, List.not_mem_nil, or_false] at h
  rcases h with rfl | rfl | rfl
  · exact ⟨_, rfl, Or.inr rfl⟩
  · exact ⟨_, rfl, Or.inl q2635⟩
  · exact ⟨_, rfl, Or.inl q2636⟩
theorem cast_Value : ∀ ci ∈ ([9, 10, 11, 12, 13] : List Nat), ∃ q : vw_C, CL[ci]? = some q ∧ (Cond.castable q.1 "FourOnOne$Value" ∈ lw_tbl ∨ q.1 = "FourOnOne$Value") := by
  intro ci h
  simp only [List.mem_cons, List.not_mem_nil, or_false] at h
  rcases h with rfl | rfl | rfl | rfl | rfl
  · exact ⟨_, rfl, Or.inl q2642⟩
  · exact ⟨_, rfl, Or.inl q2645⟩
  · exact ⟨_, rfl, Or.inl q2643⟩
  · exact ⟨_, rfl, Or.inl q2641⟩
  · exact ⟨_, rfl, Or.inl q2644⟩
theorem cast_Test : ∀ ci ∈ ([14, 15, 16, 17] : List Nat), ∃ q : vw_C, CL[ci]? = some q ∧ (Cond.castable q.1 "FourOnOne$Test" ∈ lw_tbl ∨ q.1 = "FourOnOne$Test") := by
  intro ci h
  simp only [List.mem_cons, List.not_mem_nil, or_false] at h
  rcases h with rfl | rfl | rfl | rfl
  · exact ⟨_, rfl, Or.inl q2638⟩
  · exact ⟨_, rfl, Or.inl q2639⟩
  · exact ⟨_, rfl, Or.inl q2637⟩
  · exact ⟨_, rfl, Or.inl q2640⟩
theorem cast_String : ∀ ci ∈ ([20] : List Nat), ∃ q : vw_C, CL[ci]? = some q ∧ (Cond.castable q.1 "java/lang/String" ∈ lw_tbl ∨ q.1 = "java/lang/String") := by
  intro ci h
  simp only [List.mem_cons, List.not_mem_nil, or_false] at h
  subst h
  · exact ⟨_, rfl, Or.inr rfl⟩
theorem sw_out0_5 {x : Int32} (h0 : ¬ x = 0) (h1 : ¬ x = 1) (h2 : ¬ x = 2) (h3 : ¬ x = 3) (h4 : ¬ x = 4) : x.toInt < 0 ∨ 4 < x.toInt := by
  rcases Int.lt_or_le x.toInt 0 with q | q
  · exact Or.inl q
  · rcases Int.lt_or_le 4 x.toInt with r | r
    · exact Or.inr r
    · exfalso
      have g0 : ¬ x.toInt = 0 := fun z => h0 (Int32.toInt_inj.mp (z.trans rfl))
      have g1 : ¬ x.toInt = 1 := fun z => h1 (Int32.toInt_inj.mp (z.trans rfl))
      have g2 : ¬ x.toInt = 2 := fun z => h2 (Int32.toInt_inj.mp (z.trans rfl))
      have g3 : ¬ x.toInt = 3 := fun z => h3 (Int32.toInt_inj.mp (z.trans rfl))
      have g4 : ¬ x.toInt = 4 := fun z => h4 (Int32.toInt_inj.mp (z.trans rfl))
      omega
theorem sw_out4_7 {x : Int32} (h0 : ¬ x = 4) (h1 : ¬ x = 5) (h2 : ¬ x = 6) (h3 : ¬ x = 7) (h4 : ¬ x = 8) (h5 : ¬ x = 9) (h6 : ¬ x = 10) : x.toInt < 4 ∨ 10 < x.toInt := by
  rcases Int.lt_or_le x.toInt 4 with q | q
  · exact Or.inl q
  · rcases Int.lt_or_le 10 x.toInt with r | r
    · exact Or.inr r
    · exfalso
      have g0 : ¬ x.toInt = 4 := fun z => h0 (Int32.toInt_inj.mp (z.trans rfl))
      have g1 : ¬ x.toInt = 5 := fun z => h1 (Int32.toInt_inj.mp (z.trans rfl))
      have g2 : ¬ x.toInt = 6 := fun z => h2 (Int32.toInt_inj.mp (z.trans rfl))
      have g3 : ¬ x.toInt = 7 := fun z => h3 (Int32.toInt_inj.mp (z.trans rfl))
      have g4 : ¬ x.toInt = 8 := fun z => h4 (Int32.toInt_inj.mp (z.trans rfl))
      have g5 : ¬ x.toInt = 9 := fun z => h5 (Int32.toInt_inj.mp (z.trans rfl))
      have g6 : ¬ x.toInt = 10 := fun z => h6 (Int32.toInt_inj.mp (z.trans rfl))
      omega
theorem sw_out42_4 {x : Int32} (h0 : ¬ x = 42) (h1 : ¬ x = 43) (h2 : ¬ x = 44) (h3 : ¬ x = 45) : x.toInt < 42 ∨ 45 < x.toInt := by
  rcases Int.lt_or_le x.toInt 42 with q | q
  · exact Or.inl q
  · rcases Int.lt_or_le 45 x.toInt with r | r
    · exact Or.inr r
    · exfalso
      have g0 : ¬ x.toInt = 42 := fun z => h0 (Int32.toInt_inj.mp (z.trans rfl))
      have g1 : ¬ x.toInt = 43 := fun z => h1 (Int32.toInt_inj.mp (z.trans rfl))
      have g2 : ¬ x.toInt = 44 := fun z => h2 (Int32.toInt_inj.mp (z.trans rfl))
      have g3 : ¬ x.toInt = 45 := fun z => h3 (Int32.toInt_inj.mp (z.trans rfl))
      omega
section CROWS6
variable {p : Program} {l : Launch} {e : Env} {R : Room} {s : State} {m : MethodId} {args : Array Value} {below : List Frame} {meth : Method} {c : Code} {H H0 : Heap} {locs : List Loc} {cells slots : Nat} {Q : State → Prop} {cc : ByteArray} {nL pc : Nat} {ls : Array Slot} {rest st0 : List Value} {A : Nat → Prop} {D : va_G} {ac : Nat → ClassId} {K : KE} {h : HS} {own : String} {index : Nat} {r : Option Nat}
theorem c_getNm (S : CallFix p m c cc nL s args lw_all own) (hG : GK A D ac K s) (hH : HR A D ac K h H) (hlink : Cond.fieldLink own index "FourOnOne$Named" "name" "Ljava/lang/String;" ∈ lw_all) {v : Option Nat} (hv : gNm K h r = some v) (hdg : decode cc pc = .ok (.getfield index, 3)) (kk : W p l e R s m args below meth c H locs cells slots Q (F0 m (pc + 3) ls (va_rf v :: rest))) : W p l e R s m args below meth c H locs cells slots Q (F0 m pc ls (va_rf r :: rest)) := by
  unfold gNm at hv
  split at hv
  · rename_i v' hq
    cases hv
    obtain ⟨fs, h1, h2⟩ := gR_e hq
    exact c_get S hG hH (ci := 6) (k := 0) rfl in_X7 (Nat.le_of_ble_eq_true rfl) hlink (fun _ y => y) h1 h2 hdg kk
  · split at hv
    · rename_i v' hq
      cases hv
      obtain ⟨fs, h1, h2⟩ := gR_e hq
      exact c_get S hG hH (ci := 7) (k := 0) rfl in_X8 (Nat.le_of_ble_eq_true rfl) hlink (fun _ y => y) h1 h2 hdg kk
    · obtain ⟨fs, h1, h2⟩ := gR_e hv
      exact c_get S hG hH (ci := 8) (k := 0) rfl in_X9 (Nat.le_of_ble_eq_true rfl) hlink (fun _ y => y) h1 h2 hdg kk
end CROWS6

set_option maxRecDepth 100000
/-! isPerson(I)Z -/
abbrev rmX6_isPerson : Room := { frames := 2, cells := 0, slots := 0, locals := 25 }
def fX6_isPerson (σ : MS) (a1 : Int32) : Option (Int32) :=
  (fX6_personMany σ).bind fun x1 =>
  (fX6_isIn σ a1.toInt64 (0 : Int64) ((x1 - (1 : Int32)).toInt64)).bind fun x2 =>
  (zr x2).bind fun z3 =>
  some x2
set_option maxHeartbeats 4000000 in
theorem metX6_isPerson {l : Launch} {G : mG} {b : Nat} {σ : MS} {a1 : Int32} {x : Int32} (h : fX6_isPerson σ a1 = some x) : Met l yX6_isPerson (ws_ yX6_isPerson cX6_isPerson 2 (some .boolean)) rmX6_isPerson (mP G b σ [.ref b, .int a1]) (mQi G b (σ, x)) 0 0 (mB b) := by
  refine m_entry (by decide) rfl (Nat.le_of_ble_eq_true rfl) ?_
  intro p e s m below meth c S hr hlk hK hM hS ls hl
  replace hl : lv_has ls 2 [(0, .ref b), (1, .int a1)] := hl
  obtain ⟨hx, hb, hml, hown, hts⟩ := id S
  unfold fX6_isPerson at h
  refine lv_iload_n hx hb dX6_isPerson_0 rfl (lv_at hl 1 rfl) ?_
  refine lv_i2l (v := a1.toInt64) hx hb dX6_isPerson_1 rfl ?_
  refine lv_lconst (v := (0 : Int64)) hx hb dX6_isPerson_2 (by decide) ?_
  refine lv_aload_n hx hb dX6_isPerson_3 rfl (lv_at hl 0 rfl) ?_
  replace h := ob h
  obtain ⟨x1, hx1, h⟩ := h
  refine kX6_personMany S hK hM hS hx1 ⟨Nat.le_of_ble_eq_true rfl, Nat.le_of_ble_eq_true rfl⟩ hl.1 (Nat.le_of_ble_eq_true rfl) dX6_isPerson_4 (fun H locs hM hS => ?_)
  refine lv_iconst (v := (1 : Int32)) hx hb dX6_isPerson_7 (by decide) ?_
  refine lv_isub hx hb dX6_isPerson_8 ?_
  refine lv_i2l (v := (x1 - (1 : Int32)).toInt64) hx hb dX6_isPerson_9 rfl ?_
  replace h := ob h
  obtain ⟨x2, hx2, h⟩ := h
  refine kX6_isIn S hK hM hS hx2 ⟨Nat.le_of_ble_eq_true rfl, Nat.le_of_ble_eq_true rfl⟩ hl.1 (Nat.le_of_ble_eq_true rfl) dX6_isPerson_10 (fun H locs hM hS => ?_)
  replace h := ob h
  obtain ⟨z3, hz3, h⟩ := h
  obtain ⟨hz3a, -, -⟩ := zr_e hz3
  exact m_iret' S hr hlk hz3a hM hS h dX6_isPerson_13
theorem kX6_isPerson {p : Program} {l : Launch} {e : Env} {R : Room} {s : State} {m : MethodId} {args : Array Value} {below : List Frame} {meth : Method} {c : Code} {H H0 : Heap} {locs : List Loc} {Q : State → Prop} {cc : ByteArray} {nL pc : Nat} {ls : Array Slot} {rest : List Value} {G : mG} {b : Nat} {σ : MS} {a1 : Int32} {x : Int32} (S : CallFix p m c cc nL s args lw_all RX6) (hK : mK G s) (hM : MW G b σ H) (hS : va_S (mB b) H0 H locs) (hf : fX6_isPerson σ a1 = some x) (hR : rmX6_isPerson.frames + 1 ≤ R.frames ∧ 8 + (2 + 11) + rmX6_isPerson.locals ≤ R.locals) (hsize : ls.size = nL) (hr : (rest.map fun v => v.category).sum ≤ 8) (hdg : decode cc pc = .ok (.invokevirtual 528, 3)) (kk : ∀ (H1 : Heap) (locs1 : List Loc), MW G b σ H1 → va_S (mB b) H0 H1 locs1 → W p l e R s m args below meth c H1 locs1 0 0 Q (F0 m (pc + 3) ls (.int x :: rest))) : W p l e R s m args below meth c H locs 0 0 Q (F0 m pc ls (.int a1 :: .ref b :: rest)) :=
  m_cVi (As := [.int a1]) S hK hM hS (metX6_isPerson hf) (cwV 1 S.2.2.2.2 (lw_V q2310 q2312 qs119 q179 q2313) rfl rfl rfl (by decide +kernel) hR) ⟨Nat.zero_le _, Nat.zero_le _⟩ rfl hsize rfl hr hdg kk
/-! likesOf(II)I -/
abbrev rmX6_likesOf : Room := { frames := 1, cells := 0, slots := 0, locals := 0 }
def fX6_likesOf (σ : MS) (a1 : Int32) (a2 : Int32) : Option (Int32) :=
  (aI σ 45 (((30 : Int32) + ((6 : Int32) * a1)) + a2)).bind fun v1 =>
  some v1
set_option maxHeartbeats 4000000 in
theorem metX6_likesOf {l : Launch} {G : mG} {b : Nat} {σ : MS} {a1 : Int32} {a2 : Int32} {x : Int32} (h : fX6_likesOf σ a1 a2 = some x) : Met l yX6_likesOf (ws_ yX6_likesOf cX6_likesOf 3 (some .int)) rmX6_likesOf (mP G b σ [.ref b, .int a1, .int a2]) (mQi G b (σ, x)) 0 0 (mB b) := by
  refine m_entry (by decide) rfl (Nat.le_of_ble_eq_true rfl) ?_
  intro p e s m below meth c S hr hlk hK hM hS ls hl
  replace hl : lv_has ls 3 [(0, .ref b), (1, .int a1), (2, .int a2)] := hl
  obtain ⟨hx, hb, hml, hown, hts⟩ := id S
  unfold fX6_likesOf at h
  refine lv_aload_n hx hb dX6_likesOf_0 rfl (lv_at hl 0 rfl) ?_
  refine m_get S hK hM 45 (Nat.le_of_ble_eq_true rfl) q1777 (v := .ref (ma b 45)) rfl dX6_likesOf_1 ?_
  refine lv_bipush (v := (30 : Int32)) hx hb dX6_likesOf_4 (by decide) ?_
  refine lv_bipush (v := (6 : Int32)) hx hb dX6_likesOf_6 (by decide) ?_
  refine lv_iload_n hx hb dX6_likesOf_8 rfl (lv_at hl 1 rfl) ?_
  refine lv_imul hx hb dX6_likesOf_9 ?_
  refine lv_iadd hx hb dX6_likesOf_10 ?_
  refine lv_iload_n hx hb dX6_likesOf_11 rfl (lv_at hl 2 rfl) ?_
  refine lv_iadd hx hb dX6_likesOf_12 ?_
  replace h := ob h
  obtain ⟨v1, hv1, h⟩ := h
  refine m_iald S hK hM 45 rfl hv1 dX6_likesOf_13 ?_
  exact m_iret' S hr hlk rfl hM hS h dX6_likesOf_14
theorem kX6_likesOf {p : Program} {l : Launch} {e : Env} {R : Room} {s : State} {m : MethodId} {args : Array Value} {below : List Frame} {meth : Method} {c : Code} {H H0 : Heap} {locs : List Loc} {Q : State → Prop} {cc : ByteArray} {nL pc : Nat} {ls : Array Slot} {rest : List Value} {G : mG} {b : Nat} {σ : MS} {a1 : Int32} {a2 : Int32} {x : Int32} (S : CallFix p m c cc nL s args lw_all RX6) (hK : mK G s) (hM : MW G b σ H) (hS : va_S (mB b) H0 H locs) (hf : fX6_likesOf σ a1 a2 = some x) (hR : rmX6_likesOf.frames + 1 ≤ R.frames ∧ 8 + (3 + 11) + rmX6_likesOf.locals ≤ R.locals) (hsize : ls.size = nL) (hr : (rest.map fun v => v.category).sum ≤ 8) (hdg : decode cc pc = .ok (.invokevirtual 423, 3)) (kk : ∀ (H1 : Heap) (locs1 : List Loc), MW G b σ H1 → va_S (mB b) H0 H1 locs1 → W p l e R s m args below meth c H1 locs1 0 0 Q (F0 m (pc + 3) ls (.int x :: rest))) : W p l e R s m args below meth c H locs 0 0 Q (F0 m pc ls (.int a2 :: .int a1 :: .ref b :: rest)) :=
  m_cVi (As := [.int a1, .int a2]) S hK hM hS (metX6_likesOf hf) (cwV 2 S.2.2.2.2 (lw_V q2314 q2316 qs120 q179 q2317) rfl rfl rfl (by decide +kernel) hR) ⟨Nat.zero_le _, Nat.zero_le _⟩ rfl hsize rfl hr hdg kk
/-! person(II)I -/
abbrev rmX6_person : Room := { frames := 3, cells := 0, slots := 0, locals := 46 }
def fX6_person_37 (σ : MS) (a1 : Int32) (a2 : Int32) : Option (Int32) :=
  if a2 = 0 then
    (aI σ 44 (((10 : Int32) + ((2 : Int32) * a1)) + a2)).bind fun v1 =>
    some v1
  else
  if a2 = 1 then
    (aI σ 44 (((10 : Int32) + ((2 : Int32) * a1)) + a2)).bind fun v3 =>
    some v3
  else
  if a2 = 2 then
    (fX6_doesPress σ a1).bind fun x5 =>
    if x5 = 0 then
      some (0 : Int32)
    else
    some (1 : Int32)
  else
  if a2 = 3 then
    (fX6_hoursOf σ a1).bind fun x8 =>
    some x8
  else
  some (-1 : Int32)
def fX6_person (σ : MS) (a1 : Int32) (a2 : Int32) : Option (Int32) :=
  (fX6_isPerson σ a1).bind fun x1 =>
  if x1 = 0 then
    some (-1 : Int32)
  else
  if a2 < (10 : Int32) then
    fX6_person_37 σ a1 a2
  else
  (fX6_isKind σ (a2 - (10 : Int32))).bind fun x4 =>
  if x4 = 0 then
    fX6_person_37 σ a1 a2
  else
  (fX6_likesOf σ a1 (a2 - (10 : Int32))).bind fun x6 =>
  some x6
set_option maxHeartbeats 4000000 in
theorem wX6_person_37 {p : Program} {l : Launch} {e : Env} {s : State} {m : MethodId} {args : Array Value} {below : List Frame} {meth : Method} {c : Code} {G : mG} {b : Nat} {σ : MS} (S : CallFix p m c cX6_person 3 s args lw_all RX6) (hr : meth.sig.returnType = some .int) (hlk : meth.locks = false) (hK : mK G s) {x : Int32} : ∀ (a1 : Int32) (a2 : Int32), fX6_person_37 σ a1 a2 = some x → mGo p l e rmX6_person s m args below meth c G b (MQ below (mQi G b (σ, x)) args s 0 0 (mB b)) 3 37 [(0, .ref b), (1, .int a1), (2, .int a2)] [] σ := by
  obtain ⟨hx, hb, hml, hown, hts⟩ := id S
  intro a1 a2 h H locs hM hS ls hl
  unfold fX6_person_37 at h
  refine lv_iload_n hx hb dX6_person_37 rfl (lv_at hl 2 rfl) ?_
  by_cases c2 : a2 = 0
  · replace h := it c2 h
    refine lv_tableIn (off := 30) (tgt := 68) hx hb dX6_person_38 (by rw [c2]; decide) (by rw [c2]; decide) (by rw [c2]; rfl) (by decide) ?_
    refine lv_aload_n hx hb dX6_person_68 rfl (lv_at hl 0 rfl) ?_
    refine m_get S hK hM 44 (Nat.le_of_ble_eq_true rfl) q1776 (v := .ref (ma b 44)) rfl dX6_person_69 ?_
    refine lv_bipush (v := (10 : Int32)) hx hb dX6_person_72 (by decide) ?_
    refine lv_iconst (v := (2 : Int32)) hx hb dX6_person_74 (by decide) ?_
    refine lv_iload_n hx hb dX6_person_75 rfl (lv_at hl 1 rfl) ?_
    refine lv_imul hx hb dX6_person_76 ?_
    refine lv_iadd hx hb dX6_person_77 ?_
    refine lv_iload_n hx hb dX6_person_78 rfl (lv_at hl 2 rfl) ?_
    refine lv_iadd hx hb dX6_person_79 ?_
    replace h := ob h
    obtain ⟨v1, hv1, h⟩ := h
    refine m_iald S hK hM 44 rfl hv1 dX6_person_80 ?_
    exact m_iret' S hr hlk rfl hM hS h dX6_person_81
  replace h := ie c2 h
  by_cases c4 : a2 = 1
  · replace h := it c4 h
    refine lv_tableIn (off := 30) (tgt := 68) hx hb dX6_person_38 (by rw [c4]; decide) (by rw [c4]; decide) (by rw [c4]; rfl) (by decide) ?_
    refine lv_aload_n hx hb dX6_person_68 rfl (lv_at hl 0 rfl) ?_
    refine m_get S hK hM 44 (Nat.le_of_ble_eq_true rfl) q1776 (v := .ref (ma b 44)) rfl dX6_person_69 ?_
    refine lv_bipush (v := (10 : Int32)) hx hb dX6_person_72 (by decide) ?_
    refine lv_iconst (v := (2 : Int32)) hx hb dX6_person_74 (by decide) ?_
    refine lv_iload_n hx hb dX6_person_75 rfl (lv_at hl 1 rfl) ?_
    refine lv_imul hx hb dX6_person_76 ?_
    refine lv_iadd hx hb dX6_person_77 ?_
    refine lv_iload_n hx hb dX6_person_78 rfl (lv_at hl 2 rfl) ?_
    refine lv_iadd hx hb dX6_person_79 ?_
    replace h := ob h
    obtain ⟨v3, hv3, h⟩ := h
    refine m_iald S hK hM 44 rfl hv3 dX6_person_80 ?_
    exact m_iret' S hr hlk rfl hM hS h dX6_person_81
  replace h := ie c4 h
  by_cases c7 : a2 = 2
  · replace h := it c7 h
    refine lv_tableIn (off := 44) (tgt := 82) hx hb dX6_person_38 (by rw [c7]; decide) (by rw [c7]; decide) (by rw [c7]; rfl) (by decide) ?_
    refine lv_aload_n hx hb dX6_person_82 rfl (lv_at hl 0 rfl) ?_
    refine lv_iload_n hx hb dX6_person_83 rfl (lv_at hl 1 rfl) ?_
    replace h := ob h
    obtain ⟨x5, hx5, h⟩ := h
    refine kX6_doesPress S hK hM hS hx5 ⟨Nat.le_of_ble_eq_true rfl, Nat.le_of_ble_eq_true rfl⟩ hl.1 (Nat.le_of_ble_eq_true rfl) dX6_person_84 (fun H locs hM hS => ?_)
    refine lv_if_eq (tgt := 94) hx hb dX6_person_87 (by decide) (fun c6 => ?_) (fun c6 => ?_)
    · replace h := it c6 h
      refine lv_iconst (v := (0 : Int32)) hx hb dX6_person_94 (by decide) ?_
      exact m_iret' S hr hlk rfl hM hS h dX6_person_95
    replace h := ie c6 h
    refine lv_iconst (v := (1 : Int32)) hx hb dX6_person_90 (by decide) ?_
    refine lv_goto (tgt := 95) hx hb dX6_person_91 (by decide) ?_
    exact m_iret' S hr hlk rfl hM hS h dX6_person_95
  replace h := ie c7 h
  by_cases c9 : a2 = 3
  · replace h := it c9 h
    refine lv_tableIn (off := 58) (tgt := 96) hx hb dX6_person_38 (by rw [c9]; decide) (by rw [c9]; decide) (by rw [c9]; rfl) (by decide) ?_
    refine lv_aload_n hx hb dX6_person_96 rfl (lv_at hl 0 rfl) ?_
    refine lv_iload_n hx hb dX6_person_97 rfl (lv_at hl 1 rfl) ?_
    replace h := ob h
    obtain ⟨x8, hx8, h⟩ := h
    refine kX6_hoursOf S hK hM hS hx8 ⟨Nat.le_of_ble_eq_true rfl, Nat.le_of_ble_eq_true rfl⟩ hl.1 (Nat.le_of_ble_eq_true rfl) dX6_person_98 (fun H locs hM hS => ?_)
    exact m_iret' S hr hlk rfl hM hS h dX6_person_101
  replace h := ie c9 h
  refine lv_tableOut (tgt := 102) hx hb dX6_person_38 (sw_out0_4 c2 c4 c7 c9) (by decide) ?_
  refine lv_iconst (v := (-1 : Int32)) hx hb dX6_person_102 (by decide) ?_
  exact m_iret' S hr hlk rfl hM hS h dX6_person_103
set_option maxHeartbeats 4000000 in
theorem metX6_person {l : Launch} {G : mG} {b : Nat} {σ : MS} {a1 : Int32} {a2 : Int32} {x : Int32} (h : fX6_person σ a1 a2 = some x) : Met l yX6_person (ws_ yX6_person cX6_person 3 (some .int)) rmX6_person (mP G b σ [.ref b, .int a1, .int a2]) (mQi G b (σ, x)) 0 0 (mB b) := by
  refine m_entry (by decide) rfl (Nat.le_of_ble_eq_true rfl) ?_
  intro p e s m below meth c S hr hlk hK hM hS ls hl
  replace hl : lv_has ls 3 [(0, .ref b), (1, .int a1), (2, .int a2)] := hl
  obtain ⟨hx, hb, hml, hown, hts⟩ := id S
  unfold fX6_person at h
  refine lv_aload_n hx hb dX6_person_0 rfl (lv_at hl 0 rfl) ?_
  refine lv_iload_n hx hb dX6_person_1 rfl (lv_at hl 1 rfl) ?_
  replace h := ob h
  obtain ⟨x1, hx1, h⟩ := h
  refine kX6_isPerson S hK hM hS hx1 ⟨Nat.le_of_ble_eq_true rfl, Nat.le_of_ble_eq_true rfl⟩ hl.1 (Nat.le_of_ble_eq_true rfl) dX6_person_2 (fun H locs hM hS => ?_)
  refine lv_if_ne (tgt := 10) hx hb dX6_person_5 (by decide) (fun c2 => ?_) (fun c2 => ?_)
  rotate_left 1
  · replace h := it c2 h
    refine lv_iconst (v := (-1 : Int32)) hx hb dX6_person_8 (by decide) ?_
    exact m_iret' S hr hlk rfl hM hS h dX6_person_9
  replace h := ie c2 h
  refine lv_iload_n hx hb dX6_person_10 rfl (lv_at hl 2 rfl) ?_
  refine lv_bipush (v := (10 : Int32)) hx hb dX6_person_11 (by decide) ?_
  refine lv_icmp_lt (tgt := 37) hx hb dX6_person_13 (by decide) (fun c3 => ?_) (fun c3 => ?_)
  · replace h := it c3 h
    exact wX6_person_37 S hr hlk hK a1 a2 h _ _ hM hS _ (lv_sub hl [0, 1, 2] rfl)
  replace h := ie c3 h
  refine lv_aload_n hx hb dX6_person_16 rfl (lv_at hl 0 rfl) ?_
  refine lv_iload_n hx hb dX6_person_17 rfl (lv_at hl 2 rfl) ?_
  refine lv_bipush (v := (10 : Int32)) hx hb dX6_person_18 (by decide) ?_
  refine lv_isub hx hb dX6_person_20 ?_
  replace h := ob h
  obtain ⟨x4, hx4, h⟩ := h
  refine kX6_isKind S hK hM hS hx4 ⟨Nat.le_of_ble_eq_true rfl, Nat.le_of_ble_eq_true rfl⟩ hl.1 (Nat.le_of_ble_eq_true rfl) dX6_person_21 (fun H locs hM hS => ?_)
  refine lv_if_eq (tgt := 37) hx hb dX6_person_24 (by decide) (fun c5 => ?_) (fun c5 => ?_)
  · replace h := it c5 h
    exact wX6_person_37 S hr hlk hK a1 a2 h _ _ hM hS _ (lv_sub hl [0, 1, 2] rfl)
  replace h := ie c5 h
  refine lv_aload_n hx hb dX6_person_27 rfl (lv_at hl 0 rfl) ?_
  refine lv_iload_n hx hb dX6_person_28 rfl (lv_at hl 1 rfl) ?_
  refine lv_iload_n hx hb dX6_person_29 rfl (lv_at hl 2 rfl) ?_
  refine lv_bipush (v := (10 : Int32)) hx hb dX6_person_30 (by decide) ?_
  refine lv_isub hx hb dX6_person_32 ?_
  replace h := ob h
  obtain ⟨x6, hx6, h⟩ := h
  refine kX6_likesOf S hK hM hS hx6 ⟨Nat.le_of_ble_eq_true rfl, Nat.le_of_ble_eq_true rfl⟩ hl.1 (Nat.le_of_ble_eq_true rfl) dX6_person_33 (fun H locs hM hS => ?_)
  exact m_iret' S hr hlk rfl hM hS h dX6_person_36
/-! tasteAt(II)I -/
abbrev rmX6_tasteAt : Room := { frames := 1, cells := 0, slots := 0, locals := 0 }
def fX6_tasteAt (σ : MS) (a1 : Int32) (a2 : Int32) : Option (Int32) :=
  some (((2 : Int32) + ((14 : Int32) * a1)) + a2)
set_option maxHeartbeats 4000000 in
theorem metX6_tasteAt {l : Launch} {G : mG} {b : Nat} {σ : MS} {a1 : Int32} {a2 : Int32} {x : Int32} (h : fX6_tasteAt σ a1 a2 = some x) : Met l yX6_tasteAt (ws_ yX6_tasteAt cX6_tasteAt 3 (some .int)) rmX6_tasteAt (mP G b σ [.ref b, .int a1, .int a2]) (mQi G b (σ, x)) 0 0 (mB b) := by
  refine m_entry (by decide) rfl (Nat.le_of_ble_eq_true rfl) ?_
  intro p e s m below meth c S hr hlk hK hM hS ls hl
  replace hl : lv_has ls 3 [(0, .ref b), (1, .int a1), (2, .int a2)] := hl
  obtain ⟨hx, hb, hml, hown, hts⟩ := id S
  unfold fX6_tasteAt at h
  refine lv_iconst (v := (2 : Int32)) hx hb dX6_tasteAt_0 (by decide) ?_
  refine lv_bipush (v := (14 : Int32)) hx hb dX6_tasteAt_1 (by decide) ?_
  refine lv_iload_n hx hb dX6_tasteAt_3 rfl (lv_at hl 1 rfl) ?_
  refine lv_imul hx hb dX6_tasteAt_4 ?_
  refine lv_iadd hx hb dX6_tasteAt_5 ?_
  refine lv_iload_n hx hb dX6_tasteAt_6 rfl (lv_at hl 2 rfl) ?_
  refine lv_iadd hx hb dX6_tasteAt_7 ?_
  exact m_iret' S hr hlk rfl hM hS h dX6_tasteAt_8
theorem kX6_tasteAt {p : Program} {l : Launch} {e : Env} {R : Room} {s : State} {m : MethodId} {args : Array Value} {below : List Frame} {meth : Method} {c : Code} {H H0 : Heap} {locs : List Loc} {Q : State → Prop} {cc : ByteArray} {nL pc : Nat} {ls : Array Slot} {rest : List Value} {G : mG} {b : Nat} {σ : MS} {a1 : Int32} {a2 : Int32} {x : Int32} (S : CallFix p m c cc nL s args lw_all RX6) (hK : mK G s) (hM : MW G b σ H) (hS : va_S (mB b) H0 H locs) (hf : fX6_tasteAt σ a1 a2 = some x) (hR : rmX6_tasteAt.frames + 1 ≤ R.frames ∧ 8 + (3 + 11) + rmX6_tasteAt.locals ≤ R.locals) (hsize : ls.size = nL) (hr : (rest.map fun v => v.category).sum ≤ 8) (hdg : decode cc pc = .ok (.invokevirtual 420, 3)) (kk : ∀ (H1 : Heap) (locs1 : List Loc), MW G b σ H1 → va_S (mB b) H0 H1 locs1 → W p l e R s m args below meth c H1 locs1 0 0 Q (F0 m (pc + 3) ls (.int x :: rest))) : W p l e R s m args below meth c H locs 0 0 Q (F0 m pc ls (.int a2 :: .int a1 :: .ref b :: rest)) :=
  m_cVi (As := [.int a1, .int a2]) S hK hM hS (metX6_tasteAt hf) (cwV 2 S.2.2.2.2 (lw_V q2322 q2324 qs121 q179 q2325) rfl rfl rfl (by decide +kernel) hR) ⟨Nat.zero_le _, Nat.zero_le _⟩ rfl hsize rfl hr hdg kk
/-! taste(II)I -/
abbrev rmX6_taste : Room := { frames := 3, cells := 0, slots := 0, locals := 46 }
def fX6_taste_21 (σ : MS) : Option (Int32) :=
  some (-1 : Int32)
def fX6_taste_13 (σ : MS) (a1 : Int32) (a2 : Int32) : Option (Int32) :=
  (fX6_isKind σ a2).bind fun x1 =>
  if x1 = 0 then
    fX6_taste_21 σ
  else
  (fX6_tasteAt σ ((1 : Int32) + a1) a2).bind fun x3 =>
  (aI σ 54 x3).bind fun v4 =>
  some v4
def fX6_taste (σ : MS) (a1 : Int32) (a2 : Int32) : Option (Int32) :=
  if a1 = (-1 : Int32) then
    fX6_taste_13 σ a1 a2
  else
  (fX6_isPerson σ a1).bind fun x2 =>
  if x2 = 0 then
    fX6_taste_21 σ
  else
  fX6_taste_13 σ a1 a2
set_option maxHeartbeats 4000000 in
theorem wX6_taste_21 {p : Program} {l : Launch} {e : Env} {s : State} {m : MethodId} {args : Array Value} {below : List Frame} {meth : Method} {c : Code} {G : mG} {b : Nat} {σ : MS} (S : CallFix p m c cX6_taste 3 s args lw_all RX6) (hr : meth.sig.returnType = some .int) (hlk : meth.locks = false) (hK : mK G s) {x : Int32} : fX6_taste_21 σ = some x → mGo p l e rmX6_taste s m args below meth c G b (MQ below (mQi G b (σ, x)) args s 0 0 (mB b)) 3 21 [(0, .ref b)] [] σ := by
  obtain ⟨hx, hb, hml, hown, hts⟩ := id S
  intro  h H locs hM hS ls hl
  unfold fX6_taste_21 at h
  refine lv_iconst (v := (-1 : Int32)) hx hb dX6_taste_21 (by decide) ?_
  refine lv_goto (tgt := 38) hx hb dX6_taste_22 (by decide) ?_
  exact m_iret' S hr hlk rfl hM hS h dX6_taste_38
set_option maxHeartbeats 4000000 in
theorem wX6_taste_13 {p : Program} {l : Launch} {e : Env} {s : State} {m : MethodId} {args : Array Value} {below : List Frame} {meth : Method} {c : Code} {G : mG} {b : Nat} {σ : MS} (S : CallFix p m c cX6_taste 3 s args lw_all RX6) (hr : meth.sig.returnType = some .int) (hlk : meth.locks = false) (hK : mK G s) {x : Int32} : ∀ (a1 : Int32) (a2 : Int32), fX6_taste_13 σ a1 a2 = some x → mGo p l e rmX6_taste s m args below meth c G b (MQ below (mQi G b (σ, x)) args s 0 0 (mB b)) 3 13 [(0, .ref b), (1, .int a1), (2, .int a2)] [] σ := by
  obtain ⟨hx, hb, hml, hown, hts⟩ := id S
  intro a1 a2 h H locs hM hS ls hl
  unfold fX6_taste_13 at h
  refine lv_aload_n hx hb dX6_taste_13 rfl (lv_at hl 0 rfl) ?_
  refine lv_iload_n hx hb dX6_taste_14 rfl (lv_at hl 2 rfl) ?_
  replace h := ob h
  obtain ⟨x1, hx1, h⟩ := h
  refine kX6_isKind S hK hM hS hx1 ⟨Nat.le_of_ble_eq_true rfl, Nat.le_of_ble_eq_true rfl⟩ hl.1 (Nat.le_of_ble_eq_true rfl) dX6_taste_15 (fun H locs hM hS => ?_)
  refine lv_if_ne (tgt := 25) hx hb dX6_taste_18 (by decide) (fun c2 => ?_) (fun c2 => ?_)
  rotate_left 1
  · replace h := it c2 h
    exact wX6_taste_21 S hr hlk hK h _ _ hM hS _ (lv_sub hl [0] rfl)
  replace h := ie c2 h
  refine lv_aload_n hx hb dX6_taste_25 rfl (lv_at hl 0 rfl) ?_
  refine m_get S hK hM 54 (Nat.le_of_ble_eq_true rfl) q1786 (v := .ref (ma b 54)) rfl dX6_taste_26 ?_
  refine lv_aload_n hx hb dX6_taste_29 rfl (lv_at hl 0 rfl) ?_
  refine lv_iconst (v := (1 : Int32)) hx hb dX6_taste_30 (by decide) ?_
  refine lv_iload_n hx hb dX6_taste_31 rfl (lv_at hl 1 rfl) ?_
  refine lv_iadd hx hb dX6_taste_32 ?_
  refine lv_iload_n hx hb dX6_taste_33 rfl (lv_at hl 2 rfl) ?_
  replace h := ob h
  obtain ⟨x3, hx3, h⟩ := h
  refine kX6_tasteAt S hK hM hS hx3 ⟨Nat.le_of_ble_eq_true rfl, Nat.le_of_ble_eq_true rfl⟩ hl.1 (Nat.le_of_ble_eq_true rfl) dX6_taste_34 (fun H locs hM hS => ?_)
  replace h := ob h
  obtain ⟨v4, hv4, h⟩ := h
  refine m_iald S hK hM 54 rfl hv4 dX6_taste_37 ?_
  exact m_iret' S hr hlk rfl hM hS h dX6_taste_38
set_option maxHeartbeats 4000000 in
theorem metX6_taste {l : Launch} {G : mG} {b : Nat} {σ : MS} {a1 : Int32} {a2 : Int32} {x : Int32} (h : fX6_taste σ a1 a2 = some x) : Met l yX6_taste (ws_ yX6_taste cX6_taste 3 (some .int)) rmX6_taste (mP G b σ [.ref b, .int a1, .int a2]) (mQi G b (σ, x)) 0 0 (mB b) := by
  refine m_entry (by decide) rfl (Nat.le_of_ble_eq_true rfl) ?_
  intro p e s m below meth c S hr hlk hK hM hS ls hl
  replace hl : lv_has ls 3 [(0, .ref b), (1, .int a1), (2, .int a2)] := hl
  obtain ⟨hx, hb, hml, hown, hts⟩ := id S
  unfold fX6_taste at h
  refine lv_iload_n hx hb dX6_taste_0 rfl (lv_at hl 1 rfl) ?_
  refine lv_iconst (v := (-1 : Int32)) hx hb dX6_taste_1 (by decide) ?_
  refine lv_icmp_eq (tgt := 13) hx hb dX6_taste_2 (by decide) (fun c1 => ?_) (fun c1 => ?_)
  · replace h := it c1 h
    exact wX6_taste_13 S hr hlk hK a1 a2 h _ _ hM hS _ (lv_sub hl [0, 1, 2] rfl)
  replace h := ie c1 h
  refine lv_aload_n hx hb dX6_taste_5 rfl (lv_at hl 0 rfl) ?_
  refine lv_iload_n hx hb dX6_taste_6 rfl (lv_at hl 1 rfl) ?_
  replace h := ob h
  obtain ⟨x2, hx2, h⟩ := h
  refine kX6_isPerson S hK hM hS hx2 ⟨Nat.le_of_ble_eq_true rfl, Nat.le_of_ble_eq_true rfl⟩ hl.1 (Nat.le_of_ble_eq_true rfl) dX6_taste_7 (fun H locs hM hS => ?_)
  refine lv_if_eq (tgt := 21) hx hb dX6_taste_10 (by decide) (fun c3 => ?_) (fun c3 => ?_)
  · replace h := it c3 h
    exact wX6_taste_21 S hr hlk hK h _ _ hM hS _ (lv_sub hl [0] rfl)
  replace h := ie c3 h
  exact wX6_taste_13 S hr hlk hK a1 a2 h _ _ hM hS _ (lv_sub hl [0, 1, 2] rfl)
/-! seenAt(II)I -/
abbrev rmX6_seenAt : Room := { frames := 1, cells := 0, slots := 0, locals := 0 }
def fX6_seenAt (σ : MS) (a1 : Int32) (a2 : Int32) : Option (Int32) :=
  some ((((2 : Int32) + ((14 : Int32) * a1)) + (6 : Int32)) + a2)
set_option maxHeartbeats 4000000 in
theorem metX6_seenAt {l : Launch} {G : mG} {b : Nat} {σ : MS} {a1 : Int32} {a2 : Int32} {x : Int32} (h : fX6_seenAt σ a1 a2 = some x) : Met l yX6_seenAt (ws_ yX6_seenAt cX6_seenAt 3 (some .int)) rmX6_seenAt (mP G b σ [.ref b, .int a1, .int a2]) (mQi G b (σ, x)) 0 0 (mB b) := by
  refine m_entry (by decide) rfl (Nat.le_of_ble_eq_true rfl) ?_
  intro p e s m below meth c S hr hlk hK hM hS ls hl
  replace hl : lv_has ls 3 [(0, .ref b), (1, .int a1), (2, .int a2)] := hl
  obtain ⟨hx, hb, hml, hown, hts⟩ := id S
  unfold fX6_seenAt at h
  refine lv_iconst (v := (2 : Int32)) hx hb dX6_seenAt_0 (by decide) ?_
  refine lv_bipush (v := (14 : Int32)) hx hb dX6_seenAt_1 (by decide) ?_
  refine lv_iload_n hx hb dX6_seenAt_3 rfl (lv_at hl 1 rfl) ?_
  refine lv_imul hx hb dX6_seenAt_4 ?_
  refine lv_iadd hx hb dX6_seenAt_5 ?_
  refine lv_bipush (v := (6 : Int32)) hx hb dX6_seenAt_6 (by decide) ?_
  refine lv_iadd hx hb dX6_seenAt_8 ?_
  refine lv_iload_n hx hb dX6_seenAt_9 rfl (lv_at hl 2 rfl) ?_
  refine lv_iadd hx hb dX6_seenAt_10 ?_
  exact m_iret' S hr hlk rfl hM hS h dX6_seenAt_11
theorem kX6_seenAt {p : Program} {l : Launch} {e : Env} {R : Room} {s : State} {m : MethodId} {args : Array Value} {below : List Frame} {meth : Method} {c : Code} {H H0 : Heap} {locs : List Loc} {Q : State → Prop} {cc : ByteArray} {nL pc : Nat} {ls : Array Slot} {rest : List Value} {G : mG} {b : Nat} {σ : MS} {a1 : Int32} {a2 : Int32} {x : Int32} (S : CallFix p m c cc nL s args lw_all RX6) (hK : mK G s) (hM : MW G b σ H) (hS : va_S (mB b) H0 H locs) (hf : fX6_seenAt σ a1 a2 = some x) (hR : rmX6_seenAt.frames + 1 ≤ R.frames ∧ 8 + (3 + 11) + rmX6_seenAt.locals ≤ R.locals) (hsize : ls.size = nL) (hr : (rest.map fun v => v.category).sum ≤ 8) (hdg : decode cc pc = .ok (.invokevirtual 414, 3)) (kk : ∀ (H1 : Heap) (locs1 : List Loc), MW G b σ H1 → va_S (mB b) H0 H1 locs1 → W p l e R s m args below meth c H1 locs1 0 0 Q (F0 m (pc + 3) ls (.int x :: rest))) : W p l e R s m args below meth c H locs 0 0 Q (F0 m pc ls (.int a2 :: .int a1 :: .ref b :: rest)) :=
  m_cVi (As := [.int a1, .int a2]) S hK hM hS (metX6_seenAt hf) (cwV 2 S.2.2.2.2 (lw_V q2334 q2336 qs123 q179 q2337) rfl rfl rfl (by decide +kernel) hR) ⟨Nat.zero_le _, Nat.zero_le _⟩ rfl hsize rfl hr hdg kk
/-! seenBy(II)I -/
abbrev rmX6_seenBy : Room := { frames := 2, cells := 0, slots := 0, locals := 22 }
def fX6_seenBy (σ : MS) (a1 : Int32) (a2 : Int32) : Option (Int32) :=
  (fX6_seenAt σ a1 a2).bind fun x1 =>
  (aI σ 54 x1).bind fun v2 =>
  some v2
set_option maxHeartbeats 4000000 in
theorem metX6_seenBy {l : Launch} {G : mG} {b : Nat} {σ : MS} {a1 : Int32} {a2 : Int32} {x : Int32} (h : fX6_seenBy σ a1 a2 = some x) : Met l yX6_seenBy (ws_ yX6_seenBy cX6_seenBy 3 (some .int)) rmX6_seenBy (mP G b σ [.ref b, .int a1, .int a2]) (mQi G b (σ, x)) 0 0 (mB b) := by
  refine m_entry (by decide) rfl (Nat.le_of_ble_eq_true rfl) ?_
  intro p e s m below meth c S hr hlk hK hM hS ls hl
  replace hl : lv_has ls 3 [(0, .ref b), (1, .int a1), (2, .int a2)] := hl
  obtain ⟨hx, hb, hml, hown, hts⟩ := id S
  unfold fX6_seenBy at h
  refine lv_aload_n hx hb dX6_seenBy_0 rfl (lv_at hl 0 rfl) ?_
  refine m_get S hK hM 54 (Nat.le_of_ble_eq_true rfl) q1786 (v := .ref (ma b 54)) rfl dX6_seenBy_1 ?_
  refine lv_aload_n hx hb dX6_seenBy_4 rfl (lv_at hl 0 rfl) ?_
  refine lv_iload_n hx hb dX6_seenBy_5 rfl (lv_at hl 1 rfl) ?_
  refine lv_iload_n hx hb dX6_seenBy_6 rfl (lv_at hl 2 rfl) ?_
  replace h := ob h
  obtain ⟨x1, hx1, h⟩ := h
  refine kX6_seenAt S hK hM hS hx1 ⟨Nat.le_of_ble_eq_true rfl, Nat.le_of_ble_eq_true rfl⟩ hl.1 (Nat.le_of_ble_eq_true rfl) dX6_seenBy_7 (fun H locs hM hS => ?_)
  replace h := ob h
  obtain ⟨v2, hv2, h⟩ := h
  refine m_iald S hK hM 54 rfl hv2 dX6_seenBy_10 ?_
  exact m_iret' S hr hlk rfl hM hS h dX6_seenBy_11
theorem kX6_seenBy {p : Program} {l : Launch} {e : Env} {R : Room} {s : State} {m : MethodId} {args : Array Value} {below : List Frame} {meth : Method} {c : Code} {H H0 : Heap} {locs : List Loc} {Q : State → Prop} {cc : ByteArray} {nL pc : Nat} {ls : Array Slot} {rest : List Value} {G : mG} {b : Nat} {σ : MS} {a1 : Int32} {a2 : Int32} {x : Int32} (S : CallFix p m c cc nL s args lw_all RX6) (hK : mK G s) (hM : MW G b σ H) (hS : va_S (mB b) H0 H locs) (hf : fX6_seenBy σ a1 a2 = some x) (hR : rmX6_seenBy.frames + 1 ≤ R.frames ∧ 8 + (3 + 11) + rmX6_seenBy.locals ≤ R.locals) (hsize : ls.size = nL) (hr : (rest.map fun v => v.category).sum ≤ 8) (hdg : decode cc pc = .ok (.invokevirtual 442, 3)) (kk : ∀ (H1 : Heap) (locs1 : List Loc), MW G b σ H1 → va_S (mB b) H0 H1 locs1 → W p l e R s m args below meth c H1 locs1 0 0 Q (F0 m (pc + 3) ls (.int x :: rest))) : W p l e R s m args below meth c H locs 0 0 Q (F0 m pc ls (.int a2 :: .int a1 :: .ref b :: rest)) :=
  m_cVi (As := [.int a1, .int a2]) S hK hM hS (metX6_seenBy hf) (cwV 2 S.2.2.2.2 (lw_V q2330 q2332 qs122 q179 q2333) rfl rfl rfl (by decide +kernel) hR) ⟨Nat.zero_le _, Nat.zero_le _⟩ rfl hsize rfl hr hdg kk
/-! seen(II)I -/
abbrev rmX6_seen : Room := { frames := 3, cells := 0, slots := 0, locals := 46 }
def fX6_seen_21 (σ : MS) : Option (Int32) :=
  some (-1 : Int32)
def fX6_seen_13 (σ : MS) (a1 : Int32) (a2 : Int32) : Option (Int32) :=
  (fX6_isFilm σ a2).bind fun x1 =>
  if x1 = 0 then
    fX6_seen_21 σ
  else
  (fX6_seenBy σ ((1 : Int32) + a1) a2).bind fun x3 =>
  some x3
def fX6_seen (σ : MS) (a1 : Int32) (a2 : Int32) : Option (Int32) :=
  if a1 = (-1 : Int32) then
    fX6_seen_13 σ a1 a2
  else
  (fX6_isPerson σ a1).bind fun x2 =>
  if x2 = 0 then
    fX6_seen_21 σ
  else
  fX6_seen_13 σ a1 a2
set_option maxHeartbeats 4000000 in
theorem wX6_seen_21 {p : Program} {l : Launch} {e : Env} {s : State} {m : MethodId} {args : Array Value} {below : List Frame} {meth : Method} {c : Code} {G : mG} {b : Nat} {σ : MS} (S : CallFix p m c cX6_seen 3 s args lw_all RX6) (hr : meth.sig.returnType = some .int) (hlk : meth.locks = false) (hK : mK G s) {x : Int32} : fX6_seen_21 σ = some x → mGo p l e rmX6_seen s m args below meth c G b (MQ below (mQi G b (σ, x)) args s 0 0 (mB b)) 3 21 [(0, .ref b)] [] σ := by
  obtain ⟨hx, hb, hml, hown, hts⟩ := id S
  intro  h H locs hM hS ls hl
  unfold fX6_seen_21 at h
  refine lv_iconst (v := (-1 : Int32)) hx hb dX6_seen_21 (by decide) ?_
  refine lv_goto (tgt := 33) hx hb dX6_seen_22 (by decide) ?_
  exact m_iret' S hr hlk rfl hM hS h dX6_seen_33
set_option maxHeartbeats 4000000 in
theorem wX6_seen_13 {p : Program} {l : Launch} {e : Env} {s : State} {m : MethodId} {args : Array Value} {below : List Frame} {meth : Method} {c : Code} {G : mG} {b : Nat} {σ : MS} (S : CallFix p m c cX6_seen 3 s args lw_all RX6) (hr : meth.sig.returnType = some .int) (hlk : meth.locks = false) (hK : mK G s) {x : Int32} : ∀ (a1 : Int32) (a2 : Int32), fX6_seen_13 σ a1 a2 = some x → mGo p l e rmX6_seen s m args below meth c G b (MQ below (mQi G b (σ, x)) args s 0 0 (mB b)) 3 13 [(0, .ref b), (1, .int a1), (2, .int a2)] [] σ := by
  obtain ⟨hx, hb, hml, hown, hts⟩ := id S
  intro a1 a2 h H locs hM hS ls hl
  unfold fX6_seen_13 at h
  refine lv_aload_n hx hb dX6_seen_13 rfl (lv_at hl 0 rfl) ?_
  refine lv_iload_n hx hb dX6_seen_14 rfl (lv_at hl 2 rfl) ?_
  replace h := ob h
  obtain ⟨x1, hx1, h⟩ := h
  refine kX6_isFilm S hK hM hS hx1 ⟨Nat.le_of_ble_eq_true rfl, Nat.le_of_ble_eq_true rfl⟩ hl.1 (Nat.le_of_ble_eq_true rfl) dX6_seen_15 (fun H locs hM hS => ?_)
  refine lv_if_ne (tgt := 25) hx hb dX6_seen_18 (by decide) (fun c2 => ?_) (fun c2 => ?_)
  rotate_left 1
  · replace h := it c2 h
    exact wX6_seen_21 S hr hlk hK h _ _ hM hS _ (lv_sub hl [0] rfl)
  replace h := ie c2 h
  refine lv_aload_n hx hb dX6_seen_25 rfl (lv_at hl 0 rfl) ?_
  refine lv_iconst (v := (1 : Int32)) hx hb dX6_seen_26 (by decide) ?_
  refine lv_iload_n hx hb dX6_seen_27 rfl (lv_at hl 1 rfl) ?_
  refine lv_iadd hx hb dX6_seen_28 ?_
  refine lv_iload_n hx hb dX6_seen_29 rfl (lv_at hl 2 rfl) ?_
  replace h := ob h
  obtain ⟨x3, hx3, h⟩ := h
  refine kX6_seenBy S hK hM hS hx3 ⟨Nat.le_of_ble_eq_true rfl, Nat.le_of_ble_eq_true rfl⟩ hl.1 (Nat.le_of_ble_eq_true rfl) dX6_seen_30 (fun H locs hM hS => ?_)
  exact m_iret' S hr hlk rfl hM hS h dX6_seen_33
set_option maxHeartbeats 4000000 in
theorem metX6_seen {l : Launch} {G : mG} {b : Nat} {σ : MS} {a1 : Int32} {a2 : Int32} {x : Int32} (h : fX6_seen σ a1 a2 = some x) : Met l yX6_seen (ws_ yX6_seen cX6_seen 3 (some .int)) rmX6_seen (mP G b σ [.ref b, .int a1, .int a2]) (mQi G b (σ, x)) 0 0 (mB b) := by
  refine m_entry (by decide) rfl (Nat.le_of_ble_eq_true rfl) ?_
  intro p e s m below meth c S hr hlk hK hM hS ls hl
  replace hl : lv_has ls 3 [(0, .ref b), (1, .int a1), (2, .int a2)] := hl
  obtain ⟨hx, hb, hml, hown, hts⟩ := id S
  unfold fX6_seen at h
  refine lv_iload_n hx hb dX6_seen_0 rfl (lv_at hl 1 rfl) ?_
  refine lv_iconst (v := (-1 : Int32)) hx hb dX6_seen_1 (by decide) ?_
  refine lv_icmp_eq (tgt := 13) hx hb dX6_seen_2 (by decide) (fun c1 => ?_) (fun c1 => ?_)
  · replace h := it c1 h
    exact wX6_seen_13 S hr hlk hK a1 a2 h _ _ hM hS _ (lv_sub hl [0, 1, 2] rfl)
  replace h := ie c1 h
  refine lv_aload_n hx hb dX6_seen_5 rfl (lv_at hl 0 rfl) ?_
  refine lv_iload_n hx hb dX6_seen_6 rfl (lv_at hl 1 rfl) ?_
  replace h := ob h
  obtain ⟨x2, hx2, h⟩ := h
  refine kX6_isPerson S hK hM hS hx2 ⟨Nat.le_of_ble_eq_true rfl, Nat.le_of_ble_eq_true rfl⟩ hl.1 (Nat.le_of_ble_eq_true rfl) dX6_seen_7 (fun H locs hM hS => ?_)
  refine lv_if_eq (tgt := 21) hx hb dX6_seen_10 (by decide) (fun c3 => ?_) (fun c3 => ?_)
  · replace h := it c3 h
    exact wX6_seen_21 S hr hlk hK h _ _ hM hS _ (lv_sub hl [0] rfl)
  replace h := ie c3 h
  exact wX6_seen_13 S hr hlk hK a1 a2 h _ _ hM hS _ (lv_sub hl [0, 1, 2] rfl)
/-! qClip(J)J -/
abbrev rmX6_qClip : Room := { frames := 1, cells := 0, slots := 0, locals := 0 }
def fX6_qClip (σ : MS) (a0 : Int64) : Option (Int64) :=
  if a0 ≤ (1000000 : Int64) then
    if (-1000000 : Int64) ≤ a0 then
      some a0
    else
    some (-1000000 : Int64)
  else
  some (1000000 : Int64)
set_option maxHeartbeats 4000000 in
theorem metX6_qClip {l : Launch} {G : mG} {b : Nat} {σ : MS} {a0 : Int64} {x : Int64} (h : fX6_qClip σ a0 = some x) : Met l yX6_qClip (ws_ yX6_qClip cX6_qClip 2 (some .long)) rmX6_qClip (mP G b σ [.long a0]) (mQl G b (σ, x)) 0 0 (mB b) := by
  refine m_entry (by decide) rfl (Nat.le_of_ble_eq_true rfl) ?_
  intro p e s m below meth c S hr hlk hK hM hS ls hl
  replace hl : lv_has ls 2 [(0, .long a0)] := hl
  obtain ⟨hx, hb, hml, hown, hts⟩ := id S
  unfold fX6_qClip at h
  refine lv_lload_n hx hb dX6_qClip_0 rfl (lv_at hl 0 rfl) ?_
  refine lv_ldc2 hx hb hown (hts _ q2381) dX6_qClip_1 ?_
  refine m_lcmp S dX6_qClip_4 ?_
  refine lv_if_le (tgt := 14) hx hb dX6_qClip_5 (by decide) (fun c1 => ?_) (fun c1 => ?_)
  rotate_left 1
  · replace h := ie (fun q => c1 ((lg_cmp_le _ _).mpr q)) h
    refine lv_ldc2 hx hb hown (hts _ q2381) dX6_qClip_8 ?_
    refine lv_goto (tgt := 29) hx hb dX6_qClip_11 (by decide) ?_
    exact m_lret' S hr hlk hM hS h dX6_qClip_29
  replace h := it ((lg_cmp_le _ _).mp c1) h
  refine lv_lload_n hx hb dX6_qClip_14 rfl (lv_at hl 0 rfl) ?_
  refine lv_ldc2 hx hb hown (hts _ q2382) dX6_qClip_15 ?_
  refine m_lcmp S dX6_qClip_18 ?_
  refine lv_if_ge (tgt := 28) hx hb dX6_qClip_19 (by decide) (fun c2 => ?_) (fun c2 => ?_)
  · replace h := it ((lg_cmp_ge _ _).mp c2) h
    refine lv_lload_n hx hb dX6_qClip_28 rfl (lv_at hl 0 rfl) ?_
    exact m_lret' S hr hlk hM hS h dX6_qClip_29
  replace h := ie (fun q => c2 ((lg_cmp_ge _ _).mpr q)) h
  refine lv_ldc2 hx hb hown (hts _ q2382) dX6_qClip_22 ?_
  refine lv_goto (tgt := 29) hx hb dX6_qClip_25 (by decide) ?_
  exact m_lret' S hr hlk hM hS h dX6_qClip_29
theorem kX6_qClip {p : Program} {l : Launch} {e : Env} {R : Room} {s : State} {m : MethodId} {args : Array Value} {below : List Frame} {meth : Method} {c : Code} {H H0 : Heap} {locs : List Loc} {Q : State → Prop} {cc : ByteArray} {nL pc : Nat} {ls : Array Slot} {rest : List Value} {G : mG} {b : Nat} {σ : MS} {a0 : Int64} {x : Int64} (S : CallFix p m c cc nL s args lw_all RX6) (hK : mK G s) (hM : MW G b σ H) (hS : va_S (mB b) H0 H locs) (hf : fX6_qClip σ a0 = some x) (hR : rmX6_qClip.frames + 1 ≤ R.frames ∧ 8 + (2 + 11) + rmX6_qClip.locals ≤ R.locals) (hsize : ls.size = nL) (hr : (rest.map fun v => v.category).sum ≤ 8) (hdg : decode cc pc = .ok (.invokestatic 651, 3)) (kk : ∀ (H1 : Heap) (locs1 : List Loc), MW G b σ H1 → va_S (mB b) H0 H1 locs1 → W p l e R s m args below meth c H1 locs1 0 0 Q (F0 m (pc + 3) ls (.long x :: rest))) : W p l e R s m args below meth c H locs 0 0 Q (F0 m pc ls (.long a0 :: rest)) :=
  m_cSl (As := [.long a0]) S hK hM hS (metX6_qClip hf) (va_cwS 1 S.2.2.2.2 (lw_S q2378 q2379 q179 q2380) rfl rfl rfl (by decide +kernel) hR) ⟨Nat.zero_le _, Nat.zero_le _⟩ rfl hsize rfl hr hdg kk
/-! qFloor(JJ)J -/
abbrev rmX6_qFloor : Room := { frames := 1, cells := 0, slots := 0, locals := 0 }
def fX6_qFloor_43 (σ : MS) (a4 : Int64) (t0 : Int32) (t1 : Int32) : Option (Int64) :=
  if t0 = t1 then
    some a4
  else
  some (a4 - (1 : Int64))
def fX6_qFloor_32 (σ : MS) (a2 : Int64) (a4 : Int64) (t0 : Int32) : Option (Int64) :=
  if (0 : Int64) ≤ a2 then
    fX6_qFloor_43 σ a4 t0 (0 : Int32)
  else
  fX6_qFloor_43 σ a4 t0 (1 : Int32)
def fX6_qFloor (σ : MS) (a0 : Int64) (a2 : Int64) : Option (Int64) :=
  if a2 = (0 : Int64) then
    some (0 : Int64)
  else
  (nzl a2).bind fun d2 =>
  (nzl a2).bind fun d3 =>
  if (a0 - a0 / a2 * a2) = (0 : Int64) then
    some (a0 / a2)
  else
  if (0 : Int64) ≤ a0 then
    fX6_qFloor_32 σ a2 (a0 / a2) (0 : Int32)
  else
  fX6_qFloor_32 σ a2 (a0 / a2) (1 : Int32)
set_option maxHeartbeats 4000000 in
theorem wX6_qFloor_43 {p : Program} {l : Launch} {e : Env} {s : State} {m : MethodId} {args : Array Value} {below : List Frame} {meth : Method} {c : Code} {G : mG} {b : Nat} {σ : MS} (S : CallFix p m c cX6_qFloor 6 s args lw_all RX6) (hr : meth.sig.returnType = some .long) (hlk : meth.locks = false) (hK : mK G s) {x : Int64} : ∀ (a4 : Int64) (t0 : Int32) (t1 : Int32), fX6_qFloor_43 σ a4 t0 t1 = some x → mGo p l e rmX6_qFloor s m args below meth c G b (MQ below (mQl G b (σ, x)) args s 0 0 (mB b)) 6 43 [(4, .long a4)] [.int t1, .int t0] σ := by
  obtain ⟨hx, hb, hml, hown, hts⟩ := id S
  intro a4 t0 t1 h H locs hM hS ls hl
  unfold fX6_qFloor_43 at h
  refine lv_icmp_eq (tgt := 53) hx hb dX6_qFloor_43 (by decide) (fun c1 => ?_) (fun c1 => ?_)
  · replace h := it c1 h
    refine lv_lload hx hb dX6_qFloor_53 (lv_at hl 0 rfl) ?_
    exact m_lret' S hr hlk hM hS h dX6_qFloor_55
  replace h := ie c1 h
  refine lv_lload hx hb dX6_qFloor_46 (lv_at hl 0 rfl) ?_
  refine lv_lconst (v := (1 : Int64)) hx hb dX6_qFloor_48 (by decide) ?_
  refine lv_lsub hx hb dX6_qFloor_49 ?_
  refine lv_goto (tgt := 55) hx hb dX6_qFloor_50 (by decide) ?_
  exact m_lret' S hr hlk hM hS h dX6_qFloor_55
set_option maxHeartbeats 4000000 in
theorem wX6_qFloor_32 {p : Program} {l : Launch} {e : Env} {s : State} {m : MethodId} {args : Array Value} {below : List Frame} {meth : Method} {c : Code} {G : mG} {b : Nat} {σ : MS} (S : CallFix p m c cX6_qFloor 6 s args lw_all RX6) (hr : meth.sig.returnType = some .long) (hlk : meth.locks = false) (hK : mK G s) {x : Int64} : ∀ (a2 : Int64) (a4 : Int64) (t0 : Int32), fX6_qFloor_32 σ a2 a4 t0 = some x → mGo p l e rmX6_qFloor s m args below meth c G b (MQ below (mQl G b (σ, x)) args s 0 0 (mB b)) 6 32 [(2, .long a2), (4, .long a4)] [.int t0] σ := by
  obtain ⟨hx, hb, hml, hown, hts⟩ := id S
  intro a2 a4 t0 h H locs hM hS ls hl
  unfold fX6_qFloor_32 at h
  refine lv_lload_n hx hb dX6_qFloor_32 rfl (lv_at hl 0 rfl) ?_
  refine lv_lconst (v := (0 : Int64)) hx hb dX6_qFloor_33 (by decide) ?_
  refine m_lcmp S dX6_qFloor_34 ?_
  refine lv_if_ge (tgt := 42) hx hb dX6_qFloor_35 (by decide) (fun c1 => ?_) (fun c1 => ?_)
  · replace h := it ((lg_cmp_ge _ _).mp c1) h
    refine lv_iconst (v := (0 : Int32)) hx hb dX6_qFloor_42 (by decide) ?_
    exact wX6_qFloor_43 S hr hlk hK a4 t0 (0 : Int32) h _ _ hM hS _ (lv_sub hl [1] rfl)
  replace h := ie (fun q => c1 ((lg_cmp_ge _ _).mpr q)) h
  refine lv_iconst (v := (1 : Int32)) hx hb dX6_qFloor_38 (by decide) ?_
  refine lv_goto (tgt := 43) hx hb dX6_qFloor_39 (by decide) ?_
  exact wX6_qFloor_43 S hr hlk hK a4 t0 (1 : Int32) h _ _ hM hS _ (lv_sub hl [1] rfl)
set_option maxHeartbeats 4000000 in
theorem metX6_qFloor {l : Launch} {G : mG} {b : Nat} {σ : MS} {a0 : Int64} {a2 : Int64} {x : Int64} (h : fX6_qFloor σ a0 a2 = some x) : Met l yX6_qFloor (ws_ yX6_qFloor cX6_qFloor 6 (some .long)) rmX6_qFloor (mP G b σ [.long a0, .long a2]) (mQl G b (σ, x)) 0 0 (mB b) := by
  refine m_entry (by decide) rfl (Nat.le_of_ble_eq_true rfl) ?_
  intro p e s m below meth c S hr hlk hK hM hS ls hl
  replace hl : lv_has ls 6 [(0, .long a0), (2, .long a2)] := hl
  obtain ⟨hx, hb, hml, hown, hts⟩ := id S
  unfold fX6_qFloor at h
  refine lv_lload_n hx hb dX6_qFloor_0 rfl (lv_at hl 1 rfl) ?_
  refine lv_lconst (v := (0 : Int64)) hx hb dX6_qFloor_1 (by decide) ?_
  refine m_lcmp S dX6_qFloor_2 ?_
  refine lv_if_ne (tgt := 8) hx hb dX6_qFloor_3 (by decide) (fun c1 => ?_) (fun c1 => ?_)
  rotate_left 1
  · replace h := it ((lg_cmp_eq _ _).mp c1) h
    refine lv_lconst (v := (0 : Int64)) hx hb dX6_qFloor_6 (by decide) ?_
    exact m_lret' S hr hlk hM hS h dX6_qFloor_7
  replace h := ie (fun q => c1 ((lg_cmp_eq _ _).mpr q)) h
  refine lv_lload_n hx hb dX6_qFloor_8 rfl (lv_at hl 0 rfl) ?_
  refine lv_lload_n hx hb dX6_qFloor_9 rfl (lv_at hl 1 rfl) ?_
  replace h := ob h
  obtain ⟨d2, hd2, h⟩ := h
  obtain ⟨hd2, -⟩ := nzl_e hd2
  refine lv_ldiv hx hb dX6_qFloor_10 hd2 ?_
  refine lv_lstore (lv' := [(4, .long (a0 / a2)), (0, .long a0), (2, .long a2)]) hx hb dX6_qFloor_11 hl (by decide) rfl (fun ls hl => ?_)
  refine lv_lload_n hx hb dX6_qFloor_13 rfl (lv_at hl 1 rfl) ?_
  refine lv_lload_n hx hb dX6_qFloor_14 rfl (lv_at hl 2 rfl) ?_
  replace h := ob h
  obtain ⟨d3, hd3, h⟩ := h
  obtain ⟨hd3, -⟩ := nzl_e hd3
  refine lv_lrem hx hb dX6_qFloor_15 hd3 ?_
  refine lv_lconst (v := (0 : Int64)) hx hb dX6_qFloor_16 (by decide) ?_
  refine m_lcmp S dX6_qFloor_17 ?_
  refine lv_if_eq (tgt := 53) hx hb dX6_qFloor_18 (by decide) (fun c4 => ?_) (fun c4 => ?_)
  · replace h := it ((lg_cmp_eq _ _).mp c4) h
    refine lv_lload hx hb dX6_qFloor_53 (lv_at hl 0 rfl) ?_
    exact m_lret' S hr hlk hM hS h dX6_qFloor_55
  replace h := ie (fun q => c4 ((lg_cmp_eq _ _).mpr q)) h
  refine lv_lload_n hx hb dX6_qFloor_21 rfl (lv_at hl 1 rfl) ?_
  refine lv_lconst (v := (0 : Int64)) hx hb dX6_qFloor_22 (by decide) ?_
  refine m_lcmp S dX6_qFloor_23 ?_
  refine lv_if_ge (tgt := 31) hx hb dX6_qFloor_24 (by decide) (fun c5 => ?_) (fun c5 => ?_)
  · replace h := it ((lg_cmp_ge _ _).mp c5) h
    refine lv_iconst (v := (0 : Int32)) hx hb dX6_qFloor_31 (by decide) ?_
    exact wX6_qFloor_32 S hr hlk hK a2 (a0 / a2) (0 : Int32) h _ _ hM hS _ (lv_sub hl [2, 0] rfl)
  replace h := ie (fun q => c5 ((lg_cmp_ge _ _).mpr q)) h
  refine lv_iconst (v := (1 : Int32)) hx hb dX6_qFloor_27 (by decide) ?_
  refine lv_goto (tgt := 32) hx hb dX6_qFloor_28 (by decide) ?_
  exact wX6_qFloor_32 S hr hlk hK a2 (a0 / a2) (1 : Int32) h _ _ hM hS _ (lv_sub hl [2, 0] rfl)
theorem kX6_qFloor {p : Program} {l : Launch} {e : Env} {R : Room} {s : State} {m : MethodId} {args : Array Value} {below : List Frame} {meth : Method} {c : Code} {H H0 : Heap} {locs : List Loc} {Q : State → Prop} {cc : ByteArray} {nL pc : Nat} {ls : Array Slot} {rest : List Value} {G : mG} {b : Nat} {σ : MS} {a0 : Int64} {a2 : Int64} {x : Int64} (S : CallFix p m c cc nL s args lw_all RX6) (hK : mK G s) (hM : MW G b σ H) (hS : va_S (mB b) H0 H locs) (hf : fX6_qFloor σ a0 a2 = some x) (hR : rmX6_qFloor.frames + 1 ≤ R.frames ∧ 8 + (6 + 11) + rmX6_qFloor.locals ≤ R.locals) (hsize : ls.size = nL) (hr : (rest.map fun v => v.category).sum ≤ 8) (hdg : decode cc pc = .ok (.invokestatic 655, 3)) (kk : ∀ (H1 : Heap) (locs1 : List Loc), MW G b σ H1 → va_S (mB b) H0 H1 locs1 → W p l e R s m args below meth c H1 locs1 0 0 Q (F0 m (pc + 3) ls (.long x :: rest))) : W p l e R s m args below meth c H locs 0 0 Q (F0 m pc ls (.long a2 :: .long a0 :: rest)) :=
  m_cSl (As := [.long a0, .long a2]) S hK hM hS (metX6_qFloor hf) (va_cwS 2 S.2.2.2.2 (lw_S q2383 q2384 q179 q2385) rfl rfl rfl (by decide +kernel) hR) ⟨Nat.zero_le _, Nat.zero_le _⟩ rfl hsize rfl hr hdg kk
/-! qPuts(J)V -/
abbrev rmX6_qPuts : Room := { frames := 1, cells := 0, slots := 0, locals := 0 }
def fX6_qPuts (σ : MS) (a1 : Int64) : Option (MS) :=
  (tL σ 97 (σ.1 98) a1).bind fun σ1 =>
  some (sI σ1 98 ((σ1.1 98) + (1 : Int32)))
set_option maxHeartbeats 4000000 in
theorem metX6_qPuts {l : Launch} {G : mG} {b : Nat} {σ : MS} {a1 : Int64} {x : MS} (h : fX6_qPuts σ a1 = some x) : Met l yX6_qPuts (ws_ yX6_qPuts cX6_qPuts 3 (none)) rmX6_qPuts (mP G b σ [.ref b, .long a1]) (mQv G b x) 0 0 (mB b) := by
  refine m_entry (by decide) rfl (Nat.le_of_ble_eq_true rfl) ?_
  intro p e s m below meth c S hr hlk hK hM hS ls hl
  replace hl : lv_has ls 3 [(0, .ref b), (1, .long a1)] := hl
  obtain ⟨hx, hb, hml, hown, hts⟩ := id S
  unfold fX6_qPuts at h
  refine lv_aload_n hx hb dX6_qPuts_0 rfl (lv_at hl 0 rfl) ?_
  refine m_get S hK hM 97 (Nat.le_of_ble_eq_true rfl) q1829 (v := .ref (ma b 97)) rfl dX6_qPuts_1 ?_
  refine lv_aload_n hx hb dX6_qPuts_4 rfl (lv_at hl 0 rfl) ?_
  refine m_get S hK hM 98 (Nat.le_of_ble_eq_true rfl) q1830 (v := .int (σ.1 98)) rfl dX6_qPuts_5 ?_
  refine lv_lload_n hx hb dX6_qPuts_8 rfl (lv_at hl 1 rfl) ?_
  replace h := ob h
  obtain ⟨σ1, hσ1, h⟩ := h
  refine m_last S hK hM hS 97 rfl hσ1 dX6_qPuts_9 (fun H locs hM hS => ?_)
  refine lv_aload_n hx hb dX6_qPuts_10 rfl (lv_at hl 0 rfl) ?_
  refine lv_dup hx hb dX6_qPuts_11 rfl ?_
  refine m_get S hK hM 98 (Nat.le_of_ble_eq_true rfl) q1830 (v := .int (σ1.1 98)) rfl dX6_qPuts_12 ?_
  refine lv_iconst (v := (1 : Int32)) hx hb dX6_qPuts_15 (by decide) ?_
  refine lv_iadd hx hb dX6_qPuts_16 ?_
  refine m_putI S hK hM hS 98 (Nat.le_of_ble_eq_true rfl) rfl q1830 rfl (ty := .int) rfl rfl rfl dX6_qPuts_17 (fun H locs hM hS => ?_)
  exact m_vret S hr hlk hM hS h dX6_qPuts_20
theorem kX6_qPuts {p : Program} {l : Launch} {e : Env} {R : Room} {s : State} {m : MethodId} {args : Array Value} {below : List Frame} {meth : Method} {c : Code} {H H0 : Heap} {locs : List Loc} {Q : State → Prop} {cc : ByteArray} {nL pc : Nat} {ls : Array Slot} {rest : List Value} {G : mG} {b : Nat} {σ : MS} {a1 : Int64} {x : MS} (S : CallFix p m c cc nL s args lw_all RX6) (hK : mK G s) (hM : MW G b σ H) (hS : va_S (mB b) H0 H locs) (hf : fX6_qPuts σ a1 = some x) (hR : rmX6_qPuts.frames + 1 ≤ R.frames ∧ 8 + (3 + 11) + rmX6_qPuts.locals ≤ R.locals) (hsize : ls.size = nL) (hr : (rest.map fun v => v.category).sum ≤ 8) (hdg : decode cc pc = .ok (.invokevirtual 431, 3)) (kk : ∀ (H1 : Heap) (locs1 : List Loc), MW G b x H1 → va_S (mB b) H0 H1 locs1 → W p l e R s m args below meth c H1 locs1 0 0 Q (F0 m (pc + 3) ls (rest))) : W p l e R s m args below meth c H locs 0 0 Q (F0 m pc ls (.long a1 :: .ref b :: rest)) :=
  m_cVv (As := [.long a1]) S hK hM hS (metX6_qPuts hf) (cwV 1 S.2.2.2.2 (lw_V q2358 q2360 qs128 q179 q2361) rfl rfl rfl (by decide +kernel) hR) ⟨Nat.zero_le _, Nat.zero_le _⟩ rfl hsize rfl hr hdg kk
/-! qJoins(I)V -/
abbrev rmX6_qJoins : Room := { frames := 2, cells := 0, slots := 0, locals := 25 }
def fX6_qJoins_161 (σ : MS) (t1 : Int64) : Option (MS) :=
  (fX6_qPuts σ t1).bind fun x1 =>
  some x1
def fX6_qJoins_181 (σ : MS) (t1 : Int64) : Option (MS) :=
  (fX6_qPuts σ t1).bind fun x1 =>
  some x1
def fX6_qJoins_200 (σ : MS) (t1 : Int64) : Option (MS) :=
  (fX6_qPuts σ t1).bind fun x1 =>
  some x1
def fX6_qJoins_219 (σ : MS) (t1 : Int64) : Option (MS) :=
  (fX6_qPuts σ t1).bind fun x1 =>
  some x1
def fX6_qJoins_238 (σ : MS) (t1 : Int64) : Option (MS) :=
  (fX6_qPuts σ t1).bind fun x1 =>
  some x1
def fX6_qJoins_270 (σ : MS) (t1 : Int64) : Option (MS) :=
  (fX6_qPuts σ t1).bind fun x1 =>
  some x1
def fX6_qJoins (σ : MS) (a1 : Int32) : Option (MS) :=
  (aL σ 97 ((σ.1 98) - (1 : Int32))).bind fun v1 =>
  (aL σ 97 ((σ.1 98) - (2 : Int32))).bind fun v2 =>
  if a1 = 1 then
    (fX6_qClip (sI σ 98 ((σ.1 98) - (2 : Int32))) (v2 + v1)).bind fun x3 =>
    (fX6_qPuts (sI σ 98 ((σ.1 98) - (2 : Int32))) x3).bind fun x4 =>
    some x4
  else
  if a1 = 2 then
    (fX6_qClip (sI σ 98 ((σ.1 98) - (2 : Int32))) (v2 - v1)).bind fun x6 =>
    (fX6_qPuts (sI σ 98 ((σ.1 98) - (2 : Int32))) x6).bind fun x7 =>
    some x7
  else
  if a1 = 3 then
    (fX6_qClip (sI σ 98 ((σ.1 98) - (2 : Int32))) (v2 * v1)).bind fun x9 =>
    (fX6_qPuts (sI σ 98 ((σ.1 98) - (2 : Int32))) x9).bind fun x10 =>
    some x10
  else
  if a1 = 4 then
    (fX6_qFloor (sI σ 98 ((σ.1 98) - (2 : Int32))) v2 v1).bind fun x12 =>
    (fX6_qPuts (sI σ 98 ((σ.1 98) - (2 : Int32))) x12).bind fun x13 =>
    some x13
  else
  if a1 = 5 then
    if v1 ≤ v2 then
      fX6_qJoins_161 (sI σ 98 ((σ.1 98) - (2 : Int32))) v1
    else
    fX6_qJoins_161 (sI σ 98 ((σ.1 98) - (2 : Int32))) v2
  else
  if a1 = 6 then
    if v2 ≤ v1 then
      fX6_qJoins_181 (sI σ 98 ((σ.1 98) - (2 : Int32))) v1
    else
    fX6_qJoins_181 (sI σ 98 ((σ.1 98) - (2 : Int32))) v2
  else
  if a1 = 7 then
    if v1 ≤ v2 then
      fX6_qJoins_200 (sI σ 98 ((σ.1 98) - (2 : Int32))) (0 : Int64)
    else
    fX6_qJoins_200 (sI σ 98 ((σ.1 98) - (2 : Int32))) (1 : Int64)
  else
  if a1 = 8 then
    if v2 ≤ v1 then
      fX6_qJoins_219 (sI σ 98 ((σ.1 98) - (2 : Int32))) (0 : Int64)
    else
    fX6_qJoins_219 (sI σ 98 ((σ.1 98) - (2 : Int32))) (1 : Int64)
  else
  if a1 = 9 then
    if v2 = v1 then
      fX6_qJoins_238 (sI σ 98 ((σ.1 98) - (2 : Int32))) (1 : Int64)
    else
    fX6_qJoins_238 (sI σ 98 ((σ.1 98) - (2 : Int32))) (0 : Int64)
  else
  if a1 = 10 then
    (fX6_qPuts (sI σ 98 ((σ.1 98) - (2 : Int32))) (v2 * v1)).bind fun x25 =>
    some x25
  else
  if (v2 + v1) ≤ (0 : Int64) then
    fX6_qJoins_270 (sI σ 98 ((σ.1 98) - (2 : Int32))) (0 : Int64)
  else
  fX6_qJoins_270 (sI σ 98 ((σ.1 98) - (2 : Int32))) (1 : Int64)
set_option maxHeartbeats 4000000 in
theorem wX6_qJoins_161 {p : Program} {l : Launch} {e : Env} {s : State} {m : MethodId} {args : Array Value} {below : List Frame} {meth : Method} {c : Code} {G : mG} {b : Nat} (S : CallFix p m c cX6_qJoins 6 s args lw_all RX6) (hr : meth.sig.returnType = none) (hlk : meth.locks = false) (hK : mK G s) {x : MS} : ∀ (σ : MS) (t1 : Int64), fX6_qJoins_161 σ t1 = some x → mGo p l e rmX6_qJoins s m args below meth c G b (MQ below (mQv G b x) args s 0 0 (mB b)) 6 161 [(0, .ref b)] [.long t1, .ref b] σ := by
  obtain ⟨hx, hb, hml, hown, hts⟩ := id S
  intro σ t1 h H locs hM hS ls hl
  unfold fX6_qJoins_161 at h
  replace h := ob h
  obtain ⟨x1, hx1, h⟩ := h
  refine kX6_qPuts S hK hM hS hx1 ⟨Nat.le_of_ble_eq_true rfl, Nat.le_of_ble_eq_true rfl⟩ hl.1 (Nat.le_of_ble_eq_true rfl) dX6_qJoins_161 (fun H locs hM hS => ?_)
  refine lv_goto (tgt := 273) hx hb dX6_qJoins_164 (by decide) ?_
  exact m_vret S hr hlk hM hS h dX6_qJoins_273
set_option maxHeartbeats 4000000 in
theorem wX6_qJoins_181 {p : Program} {l : Launch} {e : Env} {s : State} {m : MethodId} {args : Array Value} {below : List Frame} {meth : Method} {c : Code} {G : mG} {b : Nat} (S : CallFix p m c cX6_qJoins 6 s args lw_all RX6) (hr : meth.sig.returnType = none) (hlk : meth.locks = false) (hK : mK G s) {x : MS} : ∀ (σ : MS) (t1 : Int64), fX6_qJoins_181 σ t1 = some x → mGo p l e rmX6_qJoins s m args below meth c G b (MQ below (mQv G b x) args s 0 0 (mB b)) 6 181 [(0, .ref b)] [.long t1, .ref b] σ := by
  obtain ⟨hx, hb, hml, hown, hts⟩ := id S
  intro σ t1 h H locs hM hS ls hl
  unfold fX6_qJoins_181 at h
  replace h := ob h
  obtain ⟨x1, hx1, h⟩ := h
  refine kX6_qPuts S hK hM hS hx1 ⟨Nat.le_of_ble_eq_true rfl, Nat.le_of_ble_eq_true rfl⟩ hl.1 (Nat.le_of_ble_eq_true rfl) dX6_qJoins_181 (fun H locs hM hS => ?_)
  refine lv_goto (tgt := 273) hx hb dX6_qJoins_184 (by decide) ?_
  exact m_vret S hr hlk hM hS h dX6_qJoins_273
set_option maxHeartbeats 4000000 in
theorem wX6_qJoins_200 {p : Program} {l : Launch} {e : Env} {s : State} {m : MethodId} {args : Array Value} {below : List Frame} {meth : Method} {c : Code} {G : mG} {b : Nat} (S : CallFix p m c cX6_qJoins 6 s args lw_all RX6) (hr : meth.sig.returnType = none) (hlk : meth.locks = false) (hK : mK G s) {x : MS} : ∀ (σ : MS) (t1 : Int64), fX6_qJoins_200 σ t1 = some x → mGo p l e rmX6_qJoins s m args below meth c G b (MQ below (mQv G b x) args s 0 0 (mB b)) 6 200 [(0, .ref b)] [.long t1, .ref b] σ := by
  obtain ⟨hx, hb, hml, hown, hts⟩ := id S
  intro σ t1 h H locs hM hS ls hl
  unfold fX6_qJoins_200 at h
  replace h := ob h
  obtain ⟨x1, hx1, h⟩ := h
  refine kX6_qPuts S hK hM hS hx1 ⟨Nat.le_of_ble_eq_true rfl, Nat.le_of_ble_eq_true rfl⟩ hl.1 (Nat.le_of_ble_eq_true rfl) dX6_qJoins_200 (fun H locs hM hS => ?_)
  refine lv_goto (tgt := 273) hx hb dX6_qJoins_203 (by decide) ?_
  exact m_vret S hr hlk hM hS h dX6_qJoins_273
set_option maxHeartbeats 4000000 in
theorem wX6_qJoins_219 {p : Program} {l : Launch} {e : Env} {s : State} {m : MethodId} {args : Array Value} {below : List Frame} {meth : Method} {c : Code} {G : mG} {b : Nat} (S : CallFix p m c cX6_qJoins 6 s args lw_all RX6) (hr : meth.sig.returnType = none) (hlk : meth.locks = false) (hK : mK G s) {x : MS} : ∀ (σ : MS) (t1 : Int64), fX6_qJoins_219 σ t1 = some x → mGo p l e rmX6_qJoins s m args below meth c G b (MQ below (mQv G b x) args s 0 0 (mB b)) 6 219 [(0, .ref b)] [.long t1, .ref b] σ := by
  obtain ⟨hx, hb, hml, hown, hts⟩ := id S
  intro σ t1 h H locs hM hS ls hl
  unfold fX6_qJoins_219 at h
  replace h := ob h
  obtain ⟨x1, hx1, h⟩ := h
  refine kX6_qPuts S hK hM hS hx1 ⟨Nat.le_of_ble_eq_true rfl, Nat.le_of_ble_eq_true rfl⟩ hl.1 (Nat.le_of_ble_eq_true rfl) dX6_qJoins_219 (fun H locs hM hS => ?_)
  refine lv_goto (tgt := 273) hx hb dX6_qJoins_222 (by decide) ?_
  exact m_vret S hr hlk hM hS h dX6_qJoins_273
set_option maxHeartbeats 4000000 in
theorem wX6_qJoins_238 {p : Program} {l : Launch} {e : Env} {s : State} {m : MethodId} {args : Array Value} {below : List Frame} {meth : Method} {c : Code} {G : mG} {b : Nat} (S : CallFix p m c cX6_qJoins 6 s args lw_all RX6) (hr : meth.sig.returnType = none) (hlk : meth.locks = false) (hK : mK G s) {x : MS} : ∀ (σ : MS) (t1 : Int64), fX6_qJoins_238 σ t1 = some x → mGo p l e rmX6_qJoins s m args below meth c G b (MQ below (mQv G b x) args s 0 0 (mB b)) 6 238 [(0, .ref b)] [.long t1, .ref b] σ := by
  obtain ⟨hx, hb, hml, hown, hts⟩ := id S
  intro σ t1 h H locs hM hS ls hl
  unfold fX6_qJoins_238 at h
  replace h := ob h
  obtain ⟨x1, hx1, h⟩ := h
  refine kX6_qPuts S hK hM hS hx1 ⟨Nat.le_of_ble_eq_true rfl, Nat.le_of_ble_eq_true rfl⟩ hl.1 (Nat.le_of_ble_eq_true rfl) dX6_qJoins_238 (fun H locs hM hS => ?_)
  refine lv_goto (tgt := 273) hx hb dX6_qJoins_241 (by decide) ?_
  exact m_vret S hr hlk hM hS h dX6_qJoins_273
set_option maxHeartbeats 4000000 in
theorem wX6_qJoins_270 {p : Program} {l : Launch} {e : Env} {s : State} {m : MethodId} {args : Array Value} {below : List Frame} {meth : Method} {c : Code} {G : mG} {b : Nat} (S : CallFix p m c cX6_qJoins 6 s args lw_all RX6) (hr : meth.sig.returnType = none) (hlk : meth.locks = false) (hK : mK G s) {x : MS} : ∀ (σ : MS) (t1 : Int64), fX6_qJoins_270 σ t1 = some x → mGo p l e rmX6_qJoins s m args below meth c G b (MQ below (mQv G b x) args s 0 0 (mB b)) 6 270 [(0, .ref b)] [.long t1, .ref b] σ := by
  obtain ⟨hx, hb, hml, hown, hts⟩ := id S
  intro σ t1 h H locs hM hS ls hl
  unfold fX6_qJoins_270 at h
  replace h := ob h
  obtain ⟨x1, hx1, h⟩ := h
  refine kX6_qPuts S hK hM hS hx1 ⟨Nat.le_of_ble_eq_true rfl, Nat.le_of_ble_eq_true rfl⟩ hl.1 (Nat.le_of_ble_eq_true rfl) dX6_qJoins_270 (fun H locs hM hS => ?_)
  exact m_vret S hr hlk hM hS h dX6_qJoins_273
set_option maxHeartbeats 4000000 in
theorem metX6_qJoins {l : Launch} {G : mG} {b : Nat} {σ : MS} {a1 : Int32} {x : MS} (h : fX6_qJoins σ a1 = some x) : Met l yX6_qJoins (ws_ yX6_qJoins cX6_qJoins 6 (none)) rmX6_qJoins (mP G b σ [.ref b, .int a1]) (mQv G b x) 0 0 (mB b) := by
  refine m_entry (by decide) rfl (Nat.le_of_ble_eq_true rfl) ?_
  intro p e s m below meth c S hr hlk hK hM hS ls hl
  replace hl : lv_has ls 6 [(0, .ref b), (1, .int a1)] := hl
  obtain ⟨hx, hb, hml, hown, hts⟩ := id S
  unfold fX6_qJoins at h
  refine lv_aload_n hx hb dX6_qJoins_0 rfl (lv_at hl 0 rfl) ?_
  refine m_get S hK hM 97 (Nat.le_of_ble_eq_true rfl) q1829 (v := .ref (ma b 97)) rfl dX6_qJoins_1 ?_
  refine lv_aload_n hx hb dX6_qJoins_4 rfl (lv_at hl 0 rfl) ?_
  refine m_get S hK hM 98 (Nat.le_of_ble_eq_true rfl) q1830 (v := .int (σ.1 98)) rfl dX6_qJoins_5 ?_
  refine lv_iconst (v := (1 : Int32)) hx hb dX6_qJoins_8 (by decide) ?_
  refine lv_isub hx hb dX6_qJoins_9 ?_
  replace h := ob h
  obtain ⟨v1, hv1, h⟩ := h
  refine m_lald S hK hM 97 rfl hv1 dX6_qJoins_10 ?_
  refine lv_lstore_n (lv' := [(2, .long v1), (0, .ref b), (1, .int a1)]) hx hb dX6_qJoins_11 rfl hl (by decide) rfl (fun ls hl => ?_)
  refine lv_aload_n hx hb dX6_qJoins_12 rfl (lv_at hl 1 rfl) ?_
  refine m_get S hK hM 97 (Nat.le_of_ble_eq_true rfl) q1829 (v := .ref (ma b 97)) rfl dX6_qJoins_13 ?_
  refine lv_aload_n hx hb dX6_qJoins_16 rfl (lv_at hl 1 rfl) ?_
  refine m_get S hK hM 98 (Nat.le_of_ble_eq_true rfl) q1830 (v := .int (σ.1 98)) rfl dX6_qJoins_17 ?_
  refine lv_iconst (v := (2 : Int32)) hx hb dX6_qJoins_20 (by decide) ?_
  refine lv_isub hx hb dX6_qJoins_21 ?_
  replace h := ob h
  obtain ⟨v2, hv2, h⟩ := h
  refine m_lald S hK hM 97 rfl hv2 dX6_qJoins_22 ?_
  refine lv_lstore (lv' := [(4, .long v2), (2, .long v1), (0, .ref b), (1, .int a1)]) hx hb dX6_qJoins_23 hl (by decide) rfl (fun ls hl => ?_)
  refine lv_aload_n hx hb dX6_qJoins_25 rfl (lv_at hl 2 rfl) ?_
  refine lv_dup hx hb dX6_qJoins_26 rfl ?_
  refine m_get S hK hM 98 (Nat.le_of_ble_eq_true rfl) q1830 (v := .int (σ.1 98)) rfl dX6_qJoins_27 ?_
  refine lv_iconst (v := (2 : Int32)) hx hb dX6_qJoins_30 (by decide) ?_
  refine lv_isub hx hb dX6_qJoins_31 ?_
  refine m_putI S hK hM hS 98 (Nat.le_of_ble_eq_true rfl) rfl q1830 rfl (ty := .int) rfl rfl rfl dX6_qJoins_32 (fun H locs hM hS => ?_)
  refine lv_iload_n hx hb dX6_qJoins_35 rfl (lv_at hl 3 rfl) ?_
  by_cases c5 : a1 = 1
  · replace h := it c5 h
    refine lv_tableIn (off := 56) (tgt := 92) hx hb dX6_qJoins_36 (by rw [c5]; decide) (by rw [c5]; decide) (by rw [c5]; rfl) (by decide) ?_
    refine lv_aload_n hx hb dX6_qJoins_92 rfl (lv_at hl 2 rfl) ?_
    refine lv_lload hx hb dX6_qJoins_93 (lv_at hl 0 rfl) ?_
    refine lv_lload_n hx hb dX6_qJoins_95 rfl (lv_at hl 1 rfl) ?_
    refine lv_ladd hx hb dX6_qJoins_96 ?_
    replace h := ob h
    obtain ⟨x3, hx3, h⟩ := h
    refine kX6_qClip S hK hM hS hx3 ⟨Nat.le_of_ble_eq_true rfl, Nat.le_of_ble_eq_true rfl⟩ hl.1 (Nat.le_of_ble_eq_true rfl) dX6_qJoins_97 (fun H locs hM hS => ?_)
    replace h := ob h
    obtain ⟨x4, hx4, h⟩ := h
    refine kX6_qPuts S hK hM hS hx4 ⟨Nat.le_of_ble_eq_true rfl, Nat.le_of_ble_eq_true rfl⟩ hl.1 (Nat.le_of_ble_eq_true rfl) dX6_qJoins_100 (fun H locs hM hS => ?_)
    refine lv_goto (tgt := 273) hx hb dX6_qJoins_103 (by decide) ?_
    exact m_vret S hr hlk hM hS h dX6_qJoins_273
  replace h := ie c5 h
  by_cases c8 : a1 = 2
  · replace h := it c8 h
    refine lv_tableIn (off := 70) (tgt := 106) hx hb dX6_qJoins_36 (by rw [c8]; decide) (by rw [c8]; decide) (by rw [c8]; rfl) (by decide) ?_
    refine lv_aload_n hx hb dX6_qJoins_106 rfl (lv_at hl 2 rfl) ?_
    refine lv_lload hx hb dX6_qJoins_107 (lv_at hl 0 rfl) ?_
    refine lv_lload_n hx hb dX6_qJoins_109 rfl (lv_at hl 1 rfl) ?_
    refine lv_lsub hx hb dX6_qJoins_110 ?_
    replace h := ob h
    obtain ⟨x6, hx6, h⟩ := h
    refine kX6_qClip S hK hM hS hx6 ⟨Nat.le_of_ble_eq_true rfl, Nat.le_of_ble_eq_true rfl⟩ hl.1 (Nat.le_of_ble_eq_true rfl) dX6_qJoins_111 (fun H locs hM hS => ?_)
    replace h := ob h
    obtain ⟨x7, hx7, h⟩ := h
    refine kX6_qPuts S hK hM hS hx7 ⟨Nat.le_of_ble_eq_true rfl, Nat.le_of_ble_eq_true rfl⟩ hl.1 (Nat.le_of_ble_eq_true rfl) dX6_qJoins_114 (fun H locs hM hS => ?_)
    refine lv_goto (tgt := 273) hx hb dX6_qJoins_117 (by decide) ?_
    exact m_vret S hr hlk hM hS h dX6_qJoins_273
  replace h := ie c8 h
  by_cases c11 : a1 = 3
  · replace h := it c11 h
    refine lv_tableIn (off := 84) (tgt := 120) hx hb dX6_qJoins_36 (by rw [c11]; decide) (by rw [c11]; decide) (by rw [c11]; rfl) (by decide) ?_
    refine lv_aload_n hx hb dX6_qJoins_120 rfl (lv_at hl 2 rfl) ?_
    refine lv_lload hx hb dX6_qJoins_121 (lv_at hl 0 rfl) ?_
    refine lv_lload_n hx hb dX6_qJoins_123 rfl (lv_at hl 1 rfl) ?_
    refine lv_lmul hx hb dX6_qJoins_124 ?_
    replace h := ob h
    obtain ⟨x9, hx9, h⟩ := h
    refine kX6_qClip S hK hM hS hx9 ⟨Nat.le_of_ble_eq_true rfl, Nat.le_of_ble_eq_true rfl⟩ hl.1 (Nat.le_of_ble_eq_true rfl) dX6_qJoins_125 (fun H locs hM hS => ?_)
    replace h := ob h
    obtain ⟨x10, hx10, h⟩ := h
    refine kX6_qPuts S hK hM hS hx10 ⟨Nat.le_of_ble_eq_true rfl, Nat.le_of_ble_eq_true rfl⟩ hl.1 (Nat.le_of_ble_eq_true rfl) dX6_qJoins_128 (fun H locs hM hS => ?_)
    refine lv_goto (tgt := 273) hx hb dX6_qJoins_131 (by decide) ?_
    exact m_vret S hr hlk hM hS h dX6_qJoins_273
  replace h := ie c11 h
  by_cases c14 : a1 = 4
  · replace h := it c14 h
    refine lv_tableIn (off := 98) (tgt := 134) hx hb dX6_qJoins_36 (by rw [c14]; decide) (by rw [c14]; decide) (by rw [c14]; rfl) (by decide) ?_
    refine lv_aload_n hx hb dX6_qJoins_134 rfl (lv_at hl 2 rfl) ?_
    refine lv_lload hx hb dX6_qJoins_135 (lv_at hl 0 rfl) ?_
    refine lv_lload_n hx hb dX6_qJoins_137 rfl (lv_at hl 1 rfl) ?_
    replace h := ob h
    obtain ⟨x12, hx12, h⟩ := h
    refine kX6_qFloor S hK hM hS hx12 ⟨Nat.le_of_ble_eq_true rfl, Nat.le_of_ble_eq_true rfl⟩ hl.1 (Nat.le_of_ble_eq_true rfl) dX6_qJoins_138 (fun H locs hM hS => ?_)
    replace h := ob h
    obtain ⟨x13, hx13, h⟩ := h
    refine kX6_qPuts S hK hM hS hx13 ⟨Nat.le_of_ble_eq_true rfl, Nat.le_of_ble_eq_true rfl⟩ hl.1 (Nat.le_of_ble_eq_true rfl) dX6_qJoins_141 (fun H locs hM hS => ?_)
    refine lv_goto (tgt := 273) hx hb dX6_qJoins_144 (by decide) ?_
    exact m_vret S hr hlk hM hS h dX6_qJoins_273
  replace h := ie c14 h
  by_cases c16 : a1 = 5
  · replace h := it c16 h
    refine lv_tableIn (off := 111) (tgt := 147) hx hb dX6_qJoins_36 (by rw [c16]; decide) (by rw [c16]; decide) (by rw [c16]; rfl) (by decide) ?_
    refine lv_aload_n hx hb dX6_qJoins_147 rfl (lv_at hl 2 rfl) ?_
    refine lv_lload hx hb dX6_qJoins_148 (lv_at hl 0 rfl) ?_
    refine lv_lload_n hx hb dX6_qJoins_150 rfl (lv_at hl 1 rfl) ?_
    refine m_lcmp S dX6_qJoins_151 ?_
    refine lv_if_ge (tgt := 160) hx hb dX6_qJoins_152 (by decide) (fun c15 => ?_) (fun c15 => ?_)
    · replace h := it ((lg_cmp_ge _ _).mp c15) h
      refine lv_lload_n hx hb dX6_qJoins_160 rfl (lv_at hl 1 rfl) ?_
      exact wX6_qJoins_161 S hr hlk hK (sI σ 98 ((σ.1 98) - (2 : Int32))) v1 h _ _ hM hS _ (lv_sub hl [2] rfl)
    replace h := ie (fun q => c15 ((lg_cmp_ge _ _).mpr q)) h
    refine lv_lload hx hb dX6_qJoins_155 (lv_at hl 0 rfl) ?_
    refine lv_goto (tgt := 161) hx hb dX6_qJoins_157 (by decide) ?_
    exact wX6_qJoins_161 S hr hlk hK (sI σ 98 ((σ.1 98) - (2 : Int32))) v2 h _ _ hM hS _ (lv_sub hl [2] rfl)
  replace h := ie c16 h
  by_cases c18 : a1 = 6
  · replace h := it c18 h
    refine lv_tableIn (off := 131) (tgt := 167) hx hb dX6_qJoins_36 (by rw [c18]; decide) (by rw [c18]; decide) (by rw [c18]; rfl) (by decide) ?_
    refine lv_aload_n hx hb dX6_qJoins_167 rfl (lv_at hl 2 rfl) ?_
    refine lv_lload hx hb dX6_qJoins_168 (lv_at hl 0 rfl) ?_
    refine lv_lload_n hx hb dX6_qJoins_170 rfl (lv_at hl 1 rfl) ?_
    refine m_lcmp S dX6_qJoins_171 ?_
    refine lv_if_le (tgt := 180) hx hb dX6_qJoins_172 (by decide) (fun c17 => ?_) (fun c17 => ?_)
    · replace h := it ((lg_cmp_le _ _).mp c17) h
      refine lv_lload_n hx hb dX6_qJoins_180 rfl (lv_at hl 1 rfl) ?_
      exact wX6_qJoins_181 S hr hlk hK (sI σ 98 ((σ.1 98) - (2 : Int32))) v1 h _ _ hM hS _ (lv_sub hl [2] rfl)
    replace h := ie (fun q => c17 ((lg_cmp_le _ _).mpr q)) h
    refine lv_lload hx hb dX6_qJoins_175 (lv_at hl 0 rfl) ?_
    refine lv_goto (tgt := 181) hx hb dX6_qJoins_177 (by decide) ?_
    exact wX6_qJoins_181 S hr hlk hK (sI σ 98 ((σ.1 98) - (2 : Int32))) v2 h _ _ hM hS _ (lv_sub hl [2] rfl)
  replace h := ie c18 h
  by_cases c20 : a1 = 7
  · replace h := it c20 h
    refine lv_tableIn (off := 151) (tgt := 187) hx hb dX6_qJoins_36 (by rw [c20]; decide) (by rw [c20]; decide) (by rw [c20]; rfl) (by decide) ?_
    refine lv_aload_n hx hb dX6_qJoins_187 rfl (lv_at hl 2 rfl) ?_
    refine lv_lload hx hb dX6_qJoins_188 (lv_at hl 0 rfl) ?_
    refine lv_lload_n hx hb dX6_qJoins_190 rfl (lv_at hl 1 rfl) ?_
    refine m_lcmp S dX6_qJoins_191 ?_
    refine lv_if_ge (tgt := 199) hx hb dX6_qJoins_192 (by decide) (fun c19 => ?_) (fun c19 => ?_)
    · replace h := it ((lg_cmp_ge _ _).mp c19) h
      refine lv_lconst (v := (0 : Int64)) hx hb dX6_qJoins_199 (by decide) ?_
      exact wX6_qJoins_200 S hr hlk hK (sI σ 98 ((σ.1 98) - (2 : Int32))) (0 : Int64) h _ _ hM hS _ (lv_sub hl [2] rfl)
    replace h := ie (fun q => c19 ((lg_cmp_ge _ _).mpr q)) h
    refine lv_lconst (v := (1 : Int64)) hx hb dX6_qJoins_195 (by decide) ?_
    refine lv_goto (tgt := 200) hx hb dX6_qJoins_196 (by decide) ?_
    exact wX6_qJoins_200 S hr hlk hK (sI σ 98 ((σ.1 98) - (2 : Int32))) (1 : Int64) h _ _ hM hS _ (lv_sub hl [2] rfl)
  replace h := ie c20 h
  by_cases c22 : a1 = 8
  · replace h := it c22 h
    refine lv_tableIn (off := 170) (tgt := 206) hx hb dX6_qJoins_36 (by rw [c22]; decide) (by rw [c22]; decide) (by rw [c22]; rfl) (by decide) ?_
    refine lv_aload_n hx hb dX6_qJoins_206 rfl (lv_at hl 2 rfl) ?_
    refine lv_lload hx hb dX6_qJoins_207 (lv_at hl 0 rfl) ?_
    refine lv_lload_n hx hb dX6_qJoins_209 rfl (lv_at hl 1 rfl) ?_
    refine m_lcmp S dX6_qJoins_210 ?_
    refine lv_if_le (tgt := 218) hx hb dX6_qJoins_211 (by decide) (fun c21 => ?_) (fun c21 => ?_)
    · replace h := it ((lg_cmp_le _ _).mp c21) h
      refine lv_lconst (v := (0 : Int64)) hx hb dX6_qJoins_218 (by decide) ?_
      exact wX6_qJoins_219 S hr hlk hK (sI σ 98 ((σ.1 98) - (2 : Int32))) (0 : Int64) h _ _ hM hS _ (lv_sub hl [2] rfl)
    replace h := ie (fun q => c21 ((lg_cmp_le _ _).mpr q)) h
    refine lv_lconst (v := (1 : Int64)) hx hb dX6_qJoins_214 (by decide) ?_
    refine lv_goto (tgt := 219) hx hb dX6_qJoins_215 (by decide) ?_
    exact wX6_qJoins_219 S hr hlk hK (sI σ 98 ((σ.1 98) - (2 : Int32))) (1 : Int64) h _ _ hM hS _ (lv_sub hl [2] rfl)
  replace h := ie c22 h
  by_cases c24 : a1 = 9
  · replace h := it c24 h
    refine lv_tableIn (off := 189) (tgt := 225) hx hb dX6_qJoins_36 (by rw [c24]; decide) (by rw [c24]; decide) (by rw [c24]; rfl) (by decide) ?_
    refine lv_aload_n hx hb dX6_qJoins_225 rfl (lv_at hl 2 rfl) ?_
    refine lv_lload hx hb dX6_qJoins_226 (lv_at hl 0 rfl) ?_
    refine lv_lload_n hx hb dX6_qJoins_228 rfl (lv_at hl 1 rfl) ?_
    refine m_lcmp S dX6_qJoins_229 ?_
    refine lv_if_ne (tgt := 237) hx hb dX6_qJoins_230 (by decide) (fun c23 => ?_) (fun c23 => ?_)
    · replace h := ie (fun q => c23 ((lg_cmp_eq _ _).mpr q)) h
      refine lv_lconst (v := (0 : Int64)) hx hb dX6_qJoins_237 (by decide) ?_
      exact wX6_qJoins_238 S hr hlk hK (sI σ 98 ((σ.1 98) - (2 : Int32))) (0 : Int64) h _ _ hM hS _ (lv_sub hl [2] rfl)
    replace h := it ((lg_cmp_eq _ _).mp c23) h
    refine lv_lconst (v := (1 : Int64)) hx hb dX6_qJoins_233 (by decide) ?_
    refine lv_goto (tgt := 238) hx hb dX6_qJoins_234 (by decide) ?_
    exact wX6_qJoins_238 S hr hlk hK (sI σ 98 ((σ.1 98) - (2 : Int32))) (1 : Int64) h _ _ hM hS _ (lv_sub hl [2] rfl)
  replace h := ie c24 h
  by_cases c26 : a1 = 10
  · replace h := it c26 h
    refine lv_tableIn (off := 208) (tgt := 244) hx hb dX6_qJoins_36 (by rw [c26]; decide) (by rw [c26]; decide) (by rw [c26]; rfl) (by decide) ?_
    refine lv_aload_n hx hb dX6_qJoins_244 rfl (lv_at hl 2 rfl) ?_
    refine lv_lload hx hb dX6_qJoins_245 (lv_at hl 0 rfl) ?_
    refine lv_lload_n hx hb dX6_qJoins_247 rfl (lv_at hl 1 rfl) ?_
    refine lv_lmul hx hb dX6_qJoins_248 ?_
    replace h := ob h
    obtain ⟨x25, hx25, h⟩ := h
    refine kX6_qPuts S hK hM hS hx25 ⟨Nat.le_of_ble_eq_true rfl, Nat.le_of_ble_eq_true rfl⟩ hl.1 (Nat.le_of_ble_eq_true rfl) dX6_qJoins_249 (fun H locs hM hS => ?_)
    refine lv_goto (tgt := 273) hx hb dX6_qJoins_252 (by decide) ?_
    exact m_vret S hr hlk hM hS h dX6_qJoins_273
  replace h := ie c26 h
  refine lv_tableOut (tgt := 255) hx hb dX6_qJoins_36 (sw_out1_10 c5 c8 c11 c14 c16 c18 c20 c22 c24 c26) (by decide) ?_
  refine lv_aload_n hx hb dX6_qJoins_255 rfl (lv_at hl 2 rfl) ?_
  refine lv_lload hx hb dX6_qJoins_256 (lv_at hl 0 rfl) ?_
  refine lv_lload_n hx hb dX6_qJoins_258 rfl (lv_at hl 1 rfl) ?_
  refine lv_ladd hx hb dX6_qJoins_259 ?_
  refine lv_lconst (v := (0 : Int64)) hx hb dX6_qJoins_260 (by decide) ?_
  refine m_lcmp S dX6_qJoins_261 ?_
  refine lv_if_le (tgt := 269) hx hb dX6_qJoins_262 (by decide) (fun c27 => ?_) (fun c27 => ?_)
  · replace h := it ((lg_cmp_le _ _).mp c27) h
    refine lv_lconst (v := (0 : Int64)) hx hb dX6_qJoins_269 (by decide) ?_
    exact wX6_qJoins_270 S hr hlk hK (sI σ 98 ((σ.1 98) - (2 : Int32))) (0 : Int64) h _ _ hM hS _ (lv_sub hl [2] rfl)
  replace h := ie (fun q => c27 ((lg_cmp_le _ _).mpr q)) h
  refine lv_lconst (v := (1 : Int64)) hx hb dX6_qJoins_265 (by decide) ?_
  refine lv_goto (tgt := 270) hx hb dX6_qJoins_266 (by decide) ?_
  exact wX6_qJoins_270 S hr hlk hK (sI σ 98 ((σ.1 98) - (2 : Int32))) (1 : Int64) h _ _ hM hS _ (lv_sub hl [2] rfl)
theorem kX6_qJoins {p : Program} {l : Launch} {e : Env} {R : Room} {s : State} {m : MethodId} {args : Array Value} {below : List Frame} {meth : Method} {c : Code} {H H0 : Heap} {locs : List Loc} {Q : State → Prop} {cc : ByteArray} {nL pc : Nat} {ls : Array Slot} {rest : List Value} {G : mG} {b : Nat} {σ : MS} {a1 : Int32} {x : MS} (S : CallFix p m c cc nL s args lw_all RX6) (hK : mK G s) (hM : MW G b σ H) (hS : va_S (mB b) H0 H locs) (hf : fX6_qJoins σ a1 = some x) (hR : rmX6_qJoins.frames + 1 ≤ R.frames ∧ 8 + (6 + 11) + rmX6_qJoins.locals ≤ R.locals) (hsize : ls.size = nL) (hr : (rest.map fun v => v.category).sum ≤ 8) (hdg : decode cc pc = .ok (.invokevirtual 439, 3)) (kk : ∀ (H1 : Heap) (locs1 : List Loc), MW G b x H1 → va_S (mB b) H0 H1 locs1 → W p l e R s m args below meth c H1 locs1 0 0 Q (F0 m (pc + 3) ls (rest))) : W p l e R s m args below meth c H locs 0 0 Q (F0 m pc ls (.int a1 :: .ref b :: rest)) :=
  m_cVv (As := [.int a1]) S hK hM hS (metX6_qJoins hf) (cwV 1 S.2.2.2.2 (lw_V q2374 q2376 qs132 q179 q2377) rfl rfl rfl (by decide +kernel) hR) ⟨Nat.zero_le _, Nat.zero_le _⟩ rfl hsize rfl hr hdg kk
/-! scoreOf(II)I -/
abbrev rmX6_scoreOf : Room := { frames := 2, cells := 0, slots := 0, locals := 22 }
def fX6_scoreOf_5 (σ : MS) : Nat → Int32 → Int32 → Int32 → Int32 → Option (Int32)
  | 0, _, _, _, _ => none
  | n + 1, a1, a2, a3, a4 =>
    (fX6_kindMany σ).bind fun x1 =>
    if x1 ≤ a4 then
      some a3
    else
    (fX6_weightOf σ a2 a4).bind fun x3 =>
    (fX6_tasteAt σ a1 a4).bind fun x4 =>
    (aI σ 54 x4).bind fun v5 =>
    fX6_scoreOf_5 σ n a1 a2 (a3 + (x3 * v5)) (a4 + (1 : Int32))
def fX6_scoreOf (σ : MS) (a1 : Int32) (a2 : Int32) : Option (Int32) :=
  fX6_scoreOf_5 σ FU a1 a2 (1 : Int32) (0 : Int32)
set_option maxHeartbeats 4000000 in
theorem wX6_scoreOf_5 {p : Program} {l : Launch} {e : Env} {s : State} {m : MethodId} {args : Array Value} {below : List Frame} {meth : Method} {c : Code} {G : mG} {b : Nat} {σ : MS} (S : CallFix p m c cX6_scoreOf 5 s args lw_all RX6) (hr : meth.sig.returnType = some .int) (hlk : meth.locks = false) (hK : mK G s) {x : Int32} : ∀ (n : Nat) (a1 : Int32) (a2 : Int32) (a3 : Int32) (a4 : Int32), fX6_scoreOf_5 σ n a1 a2 a3 a4 = some x → mGo p l e rmX6_scoreOf s m args below meth c G b (MQ below (mQi G b (σ, x)) args s 0 0 (mB b)) 5 5 [(0, .ref b), (1, .int a1), (2, .int a2), (3, .int a3), (4, .int a4)] [] σ := by
  obtain ⟨hx, hb, hml, hown, hts⟩ := id S
  intro n
  induction n with
  | zero => intro a1 a2 a3 a4 h; cases h
  | succ n ih =>
    intro a1 a2 a3 a4 h H locs hM hS ls hl
    rw [fX6_scoreOf_5] at h
    refine lv_iload hx hb dX6_scoreOf_5 (lv_at hl 4 rfl) ?_
    refine lv_aload_n hx hb dX6_scoreOf_7 rfl (lv_at hl 0 rfl) ?_
    replace h := ob h
    obtain ⟨x1, hx1, h⟩ := h
    refine kX6_kindMany S hK hM hS hx1 ⟨Nat.le_of_ble_eq_true rfl, Nat.le_of_ble_eq_true rfl⟩ hl.1 (Nat.le_of_ble_eq_true rfl) dX6_scoreOf_8 (fun H locs hM hS => ?_)
    refine lv_icmp_ge (tgt := 43) hx hb dX6_scoreOf_11 (by decide) (fun c2 => ?_) (fun c2 => ?_)
    · replace h := it c2 h
      refine lv_iload_n hx hb dX6_scoreOf_43 rfl (lv_at hl 3 rfl) ?_
      exact m_iret' S hr hlk rfl hM hS h dX6_scoreOf_44
    replace h := ie c2 h
    refine lv_iload_n hx hb dX6_scoreOf_14 rfl (lv_at hl 3 rfl) ?_
    refine lv_aload_n hx hb dX6_scoreOf_15 rfl (lv_at hl 0 rfl) ?_
    refine lv_iload_n hx hb dX6_scoreOf_16 rfl (lv_at hl 2 rfl) ?_
    refine lv_iload hx hb dX6_scoreOf_17 (lv_at hl 4 rfl) ?_
    replace h := ob h
    obtain ⟨x3, hx3, h⟩ := h
    refine kX6_weightOf S hK hM hS hx3 ⟨Nat.le_of_ble_eq_true rfl, Nat.le_of_ble_eq_true rfl⟩ hl.1 (Nat.le_of_ble_eq_true rfl) dX6_scoreOf_19 (fun H locs hM hS => ?_)
    refine lv_aload_n hx hb dX6_scoreOf_22 rfl (lv_at hl 0 rfl) ?_
    refine m_get S hK hM 54 (Nat.le_of_ble_eq_true rfl) q1786 (v := .ref (ma b 54)) rfl dX6_scoreOf_23 ?_
    refine lv_aload_n hx hb dX6_scoreOf_26 rfl (lv_at hl 0 rfl) ?_
    refine lv_iload_n hx hb dX6_scoreOf_27 rfl (lv_at hl 1 rfl) ?_
    refine lv_iload hx hb dX6_scoreOf_28 (lv_at hl 4 rfl) ?_
    replace h := ob h
    obtain ⟨x4, hx4, h⟩ := h
    refine kX6_tasteAt S hK hM hS hx4 ⟨Nat.le_of_ble_eq_true rfl, Nat.le_of_ble_eq_true rfl⟩ hl.1 (Nat.le_of_ble_eq_true rfl) dX6_scoreOf_30 (fun H locs hM hS => ?_)
    replace h := ob h
    obtain ⟨v5, hv5, h⟩ := h
    refine m_iald S hK hM 54 rfl hv5 dX6_scoreOf_33 ?_
    refine lv_imul hx hb dX6_scoreOf_34 ?_
    refine lv_iadd hx hb dX6_scoreOf_35 ?_
    refine lv_istore_n (lv' := [(3, .int (a3 + (x3 * v5))), (0, .ref b), (1, .int a1), (2, .int a2), (4, .int a4)]) hx hb dX6_scoreOf_36 rfl hl (by decide) rfl (fun ls hl => ?_)
    refine lv_iinc (v := (a4 + (1 : Int32))) (lv' := [(4, .int (a4 + (1 : Int32))), (3, .int (a3 + (x3 * v5))), (0, .ref b), (1, .int a1), (2, .int a2)]) hx hb dX6_scoreOf_37 hl (k := 4) rfl rfl (by decide) rfl (fun ls hl => ?_)
    refine lv_goto (tgt := 5) hx hb dX6_scoreOf_40 (by decide) ?_
    exact ih a1 a2 (a3 + (x3 * v5)) (a4 + (1 : Int32)) h _ _ hM hS _ (lv_sub hl [2, 3, 4, 1, 0] rfl)
set_option maxHeartbeats 4000000 in
theorem metX6_scoreOf {l : Launch} {G : mG} {b : Nat} {σ : MS} {a1 : Int32} {a2 : Int32} {x : Int32} (h : fX6_scoreOf σ a1 a2 = some x) : Met l yX6_scoreOf (ws_ yX6_scoreOf cX6_scoreOf 5 (some .int)) rmX6_scoreOf (mP G b σ [.ref b, .int a1, .int a2]) (mQi G b (σ, x)) 0 0 (mB b) := by
  refine m_entry (by decide) rfl (Nat.le_of_ble_eq_true rfl) ?_
  intro p e s m below meth c S hr hlk hK hM hS ls hl
  replace hl : lv_has ls 5 [(0, .ref b), (1, .int a1), (2, .int a2)] := hl
  obtain ⟨hx, hb, hml, hown, hts⟩ := id S
  unfold fX6_scoreOf at h
  refine lv_iconst (v := (1 : Int32)) hx hb dX6_scoreOf_0 (by decide) ?_
  refine lv_istore_n (lv' := [(3, .int (1 : Int32)), (0, .ref b), (1, .int a1), (2, .int a2)]) hx hb dX6_scoreOf_1 rfl hl (by decide) rfl (fun ls hl => ?_)
  refine lv_iconst (v := (0 : Int32)) hx hb dX6_scoreOf_2 (by decide) ?_
  refine lv_istore (lv' := [(4, .int (0 : Int32)), (3, .int (1 : Int32)), (0, .ref b), (1, .int a1), (2, .int a2)]) hx hb dX6_scoreOf_3 hl (by decide) rfl (fun ls hl => ?_)
  exact wX6_scoreOf_5 S hr hlk hK FU a1 a2 (1 : Int32) (0 : Int32) h _ _ hM hS _ (lv_sub hl [2, 3, 4, 1, 0] rfl)
theorem kX6_scoreOf {p : Program} {l : Launch} {e : Env} {R : Room} {s : State} {m : MethodId} {args : Array Value} {below : List Frame} {meth : Method} {c : Code} {H H0 : Heap} {locs : List Loc} {Q : State → Prop} {cc : ByteArray} {nL pc : Nat} {ls : Array Slot} {rest : List Value} {G : mG} {b : Nat} {σ : MS} {a1 : Int32} {a2 : Int32} {x : Int32} (S : CallFix p m c cc nL s args lw_all RX6) (hK : mK G s) (hM : MW G b σ H) (hS : va_S (mB b) H0 H locs) (hf : fX6_scoreOf σ a1 a2 = some x) (hR : rmX6_scoreOf.frames + 1 ≤ R.frames ∧ 8 + (5 + 11) + rmX6_scoreOf.locals ≤ R.locals) (hsize : ls.size = nL) (hr : (rest.map fun v => v.category).sum ≤ 8) (hdg : decode cc pc = .ok (.invokevirtual 461, 3)) (kk : ∀ (H1 : Heap) (locs1 : List Loc), MW G b σ H1 → va_S (mB b) H0 H1 locs1 → W p l e R s m args below meth c H1 locs1 0 0 Q (F0 m (pc + 3) ls (.int x :: rest))) : W p l e R s m args below meth c H locs 0 0 Q (F0 m pc ls (.int a2 :: .int a1 :: .ref b :: rest)) :=
  m_cVi (As := [.int a1, .int a2]) S hK hM hS (metX6_scoreOf hf) (cwV 2 S.2.2.2.2 (lw_V q2366 q2368 qs130 q179 q2369) rfl rfl rfl (by decide +kernel) hR) ⟨Nat.zero_le _, Nat.zero_le _⟩ rfl hsize rfl hr hdg kk
/-! worthOf(II)I -/
abbrev rmX6_worthOf : Room := { frames := 2, cells := 0, slots := 0, locals := 22 }
def fX6_worthOf_5 (σ : MS) : Nat → Int32 → Int32 → Int32 → Int32 → Option (Int32)
  | 0, _, _, _, _ => none
  | n + 1, a1, a2, a3, a4 =>
    (fX6_kindMany σ).bind fun x1 =>
    if x1 ≤ a4 then
      some a3
    else
    (fX6_weightOf σ a2 a4).bind fun x3 =>
    (fX6_likesOf σ a1 a4).bind fun x4 =>
    fX6_worthOf_5 σ n a1 a2 (a3 + (x3 * x4)) (a4 + (1 : Int32))
def fX6_worthOf (σ : MS) (a1 : Int32) (a2 : Int32) : Option (Int32) :=
  fX6_worthOf_5 σ FU a1 a2 (0 : Int32) (0 : Int32)
set_option maxHeartbeats 4000000 in
theorem wX6_worthOf_5 {p : Program} {l : Launch} {e : Env} {s : State} {m : MethodId} {args : Array Value} {below : List Frame} {meth : Method} {c : Code} {G : mG} {b : Nat} {σ : MS} (S : CallFix p m c cX6_worthOf 5 s args lw_all RX6) (hr : meth.sig.returnType = some .int) (hlk : meth.locks = false) (hK : mK G s) {x : Int32} : ∀ (n : Nat) (a1 : Int32) (a2 : Int32) (a3 : Int32) (a4 : Int32), fX6_worthOf_5 σ n a1 a2 a3 a4 = some x → mGo p l e rmX6_worthOf s m args below meth c G b (MQ below (mQi G b (σ, x)) args s 0 0 (mB b)) 5 5 [(0, .ref b), (1, .int a1), (2, .int a2), (3, .int a3), (4, .int a4)] [] σ := by
  obtain ⟨hx, hb, hml, hown, hts⟩ := id S
  intro n
  induction n with
  | zero => intro a1 a2 a3 a4 h; cases h
  | succ n ih =>
    intro a1 a2 a3 a4 h H locs hM hS ls hl
    rw [fX6_worthOf_5] at h
    refine lv_iload hx hb dX6_worthOf_5 (lv_at hl 4 rfl) ?_
    refine lv_aload_n hx hb dX6_worthOf_7 rfl (lv_at hl 0 rfl) ?_
    replace h := ob h
    obtain ⟨x1, hx1, h⟩ := h
    refine kX6_kindMany S hK hM hS hx1 ⟨Nat.le_of_ble_eq_true rfl, Nat.le_of_ble_eq_true rfl⟩ hl.1 (Nat.le_of_ble_eq_true rfl) dX6_worthOf_8 (fun H locs hM hS => ?_)
    refine lv_icmp_ge (tgt := 38) hx hb dX6_worthOf_11 (by decide) (fun c2 => ?_) (fun c2 => ?_)
    · replace h := it c2 h
      refine lv_iload_n hx hb dX6_worthOf_38 rfl (lv_at hl 3 rfl) ?_
      exact m_iret' S hr hlk rfl hM hS h dX6_worthOf_39
    replace h := ie c2 h
    refine lv_iload_n hx hb dX6_worthOf_14 rfl (lv_at hl 3 rfl) ?_
    refine lv_aload_n hx hb dX6_worthOf_15 rfl (lv_at hl 0 rfl) ?_
    refine lv_iload_n hx hb dX6_worthOf_16 rfl (lv_at hl 2 rfl) ?_
    refine lv_iload hx hb dX6_worthOf_17 (lv_at hl 4 rfl) ?_
    replace h := ob h
    obtain ⟨x3, hx3, h⟩ := h
    refine kX6_weightOf S hK hM hS hx3 ⟨Nat.le_of_ble_eq_true rfl, Nat.le_of_ble_eq_true rfl⟩ hl.1 (Nat.le_of_ble_eq_true rfl) dX6_worthOf_19 (fun H locs hM hS => ?_)
    refine lv_aload_n hx hb dX6_worthOf_22 rfl (lv_at hl 0 rfl) ?_
    refine lv_iload_n hx hb dX6_worthOf_23 rfl (lv_at hl 1 rfl) ?_
    refine lv_iload hx hb dX6_worthOf_24 (lv_at hl 4 rfl) ?_
    replace h := ob h
    obtain ⟨x4, hx4, h⟩ := h
    refine kX6_likesOf S hK hM hS hx4 ⟨Nat.le_of_ble_eq_true rfl, Nat.le_of_ble_eq_true rfl⟩ hl.1 (Nat.le_of_ble_eq_true rfl) dX6_worthOf_26 (fun H locs hM hS => ?_)
    refine lv_imul hx hb dX6_worthOf_29 ?_
    refine lv_iadd hx hb dX6_worthOf_30 ?_
    refine lv_istore_n (lv' := [(3, .int (a3 + (x3 * x4))), (0, .ref b), (1, .int a1), (2, .int a2), (4, .int a4)]) hx hb dX6_worthOf_31 rfl hl (by decide) rfl (fun ls hl => ?_)
    refine lv_iinc (v := (a4 + (1 : Int32))) (lv' := [(4, .int (a4 + (1 : Int32))), (3, .int (a3 + (x3 * x4))), (0, .ref b), (1, .int a1), (2, .int a2)]) hx hb dX6_worthOf_32 hl (k := 4) rfl rfl (by decide) rfl (fun ls hl => ?_)
    refine lv_goto (tgt := 5) hx hb dX6_worthOf_35 (by decide) ?_
    exact ih a1 a2 (a3 + (x3 * x4)) (a4 + (1 : Int32)) h _ _ hM hS _ (lv_sub hl [2, 3, 4, 1, 0] rfl)
set_option maxHeartbeats 4000000 in
theorem metX6_worthOf {l : Launch} {G : mG} {b : Nat} {σ : MS} {a1 : Int32} {a2 : Int32} {x : Int32} (h : fX6_worthOf σ a1 a2 = some x) : Met l yX6_worthOf (ws_ yX6_worthOf cX6_worthOf 5 (some .int)) rmX6_worthOf (mP G b σ [.ref b, .int a1, .int a2]) (mQi G b (σ, x)) 0 0 (mB b) := by
  refine m_entry (by decide) rfl (Nat.le_of_ble_eq_true rfl) ?_
  intro p e s m below meth c S hr hlk hK hM hS ls hl
  replace hl : lv_has ls 5 [(0, .ref b), (1, .int a1), (2, .int a2)] := hl
  obtain ⟨hx, hb, hml, hown, hts⟩ := id S
  unfold fX6_worthOf at h
  refine lv_iconst (v := (0 : Int32)) hx hb dX6_worthOf_0 (by decide) ?_
  refine lv_istore_n (lv' := [(3, .int (0 : Int32)), (0, .ref b), (1, .int a1), (2, .int a2)]) hx hb dX6_worthOf_1 rfl hl (by decide) rfl (fun ls hl => ?_)
  refine lv_iconst (v := (0 : Int32)) hx hb dX6_worthOf_2 (by decide) ?_
  refine lv_istore (lv' := [(4, .int (0 : Int32)), (3, .int (0 : Int32)), (0, .ref b), (1, .int a1), (2, .int a2)]) hx hb dX6_worthOf_3 hl (by decide) rfl (fun ls hl => ?_)
  exact wX6_worthOf_5 S hr hlk hK FU a1 a2 (0 : Int32) (0 : Int32) h _ _ hM hS _ (lv_sub hl [2, 3, 4, 1, 0] rfl)
theorem kX6_worthOf {p : Program} {l : Launch} {e : Env} {R : Room} {s : State} {m : MethodId} {args : Array Value} {below : List Frame} {meth : Method} {c : Code} {H H0 : Heap} {locs : List Loc} {Q : State → Prop} {cc : ByteArray} {nL pc : Nat} {ls : Array Slot} {rest : List Value} {G : mG} {b : Nat} {σ : MS} {a1 : Int32} {a2 : Int32} {x : Int32} (S : CallFix p m c cc nL s args lw_all RX6) (hK : mK G s) (hM : MW G b σ H) (hS : va_S (mB b) H0 H locs) (hf : fX6_worthOf σ a1 a2 = some x) (hR : rmX6_worthOf.frames + 1 ≤ R.frames ∧ 8 + (5 + 11) + rmX6_worthOf.locals ≤ R.locals) (hsize : ls.size = nL) (hr : (rest.map fun v => v.category).sum ≤ 8) (hdg : decode cc pc = .ok (.invokevirtual 478, 3)) (kk : ∀ (H1 : Heap) (locs1 : List Loc), MW G b σ H1 → va_S (mB b) H0 H1 locs1 → W p l e R s m args below meth c H1 locs1 0 0 Q (F0 m (pc + 3) ls (.int x :: rest))) : W p l e R s m args below meth c H locs 0 0 Q (F0 m pc ls (.int a2 :: .int a1 :: .ref b :: rest)) :=
  m_cVi (As := [.int a1, .int a2]) S hK hM hS (metX6_worthOf hf) (cwV 2 S.2.2.2.2 (lw_V q2370 q2372 qs131 q179 q2373) rfl rfl rfl (by decide +kernel) hR) ⟨Nat.zero_le _, Nat.zero_le _⟩ rfl hsize rfl hr hdg kk
/-! qPartOf(II)J -/
abbrev rmX6_qPartOf : Room := { frames := 3, cells := 0, slots := 0, locals := 46 }
def fX6_qPartOf (σ : MS) (a1 : Int32) (a2 : Int32) : Option (Int64) :=
  if a1 = 0 then
    (aI σ 54 (1 : Int32)).bind fun v1 =>
    some v1.toInt64
  else
  if a1 = 1 then
    some ((σ.1 58).toInt64)
  else
  if a1 = 2 then
    some ((σ.1 59).toInt64)
  else
  if a1 = 3 then
    (fX6_partsOf σ a2).bind fun x5 =>
    some x5.toInt64
  else
  if a1 = 4 then
    (fX6_seenBy σ (σ.1 57) a2).bind fun x7 =>
    some x7.toInt64
  else
  if a1 = 5 then
    (fX6_scoreOf σ (σ.1 57) a2).bind fun x9 =>
    some x9.toInt64
  else
  if a1 = 6 then
    some a2.toInt64
  else
  (fX6_worthOf σ (σ.1 56) a2).bind fun x12 =>
  some x12.toInt64
set_option maxHeartbeats 4000000 in
theorem metX6_qPartOf {l : Launch} {G : mG} {b : Nat} {σ : MS} {a1 : Int32} {a2 : Int32} {x : Int64} (h : fX6_qPartOf σ a1 a2 = some x) : Met l yX6_qPartOf (ws_ yX6_qPartOf cX6_qPartOf 3 (some .long)) rmX6_qPartOf (mP G b σ [.ref b, .int a1, .int a2]) (mQl G b (σ, x)) 0 0 (mB b) := by
  refine m_entry (by decide) rfl (Nat.le_of_ble_eq_true rfl) ?_
  intro p e s m below meth c S hr hlk hK hM hS ls hl
  replace hl : lv_has ls 3 [(0, .ref b), (1, .int a1), (2, .int a2)] := hl
  obtain ⟨hx, hb, hml, hown, hts⟩ := id S
  unfold fX6_qPartOf at h
  refine lv_iload_n hx hb dX6_qPartOf_0 rfl (lv_at hl 1 rfl) ?_
  by_cases c2 : a1 = 0
  · replace h := it c2 h
    refine lv_tableIn (off := 43) (tgt := 44) hx hb dX6_qPartOf_1 (by rw [c2]; decide) (by rw [c2]; decide) (by rw [c2]; rfl) (by decide) ?_
    refine lv_aload_n hx hb dX6_qPartOf_44 rfl (lv_at hl 0 rfl) ?_
    refine m_get S hK hM 54 (Nat.le_of_ble_eq_true rfl) q1786 (v := .ref (ma b 54)) rfl dX6_qPartOf_45 ?_
    refine lv_iconst (v := (1 : Int32)) hx hb dX6_qPartOf_48 (by decide) ?_
    replace h := ob h
    obtain ⟨v1, hv1, h⟩ := h
    refine m_iald S hK hM 54 rfl hv1 dX6_qPartOf_49 ?_
    refine lv_i2l (v := v1.toInt64) hx hb dX6_qPartOf_50 rfl ?_
    exact m_lret' S hr hlk hM hS h dX6_qPartOf_51
  replace h := ie c2 h
  by_cases c3 : a1 = 1
  · replace h := it c3 h
    refine lv_tableIn (off := 51) (tgt := 52) hx hb dX6_qPartOf_1 (by rw [c3]; decide) (by rw [c3]; decide) (by rw [c3]; rfl) (by decide) ?_
    refine lv_aload_n hx hb dX6_qPartOf_52 rfl (lv_at hl 0 rfl) ?_
    refine m_get S hK hM 58 (Nat.le_of_ble_eq_true rfl) q1790 (v := .int (σ.1 58)) rfl dX6_qPartOf_53 ?_
    refine lv_i2l (v := (σ.1 58).toInt64) hx hb dX6_qPartOf_56 rfl ?_
    exact m_lret' S hr hlk hM hS h dX6_qPartOf_57
  replace h := ie c3 h
  by_cases c4 : a1 = 2
  · replace h := it c4 h
    refine lv_tableIn (off := 57) (tgt := 58) hx hb dX6_qPartOf_1 (by rw [c4]; decide) (by rw [c4]; decide) (by rw [c4]; rfl) (by decide) ?_
    refine lv_aload_n hx hb dX6_qPartOf_58 rfl (lv_at hl 0 rfl) ?_
    refine m_get S hK hM 59 (Nat.le_of_ble_eq_true rfl) q1791 (v := .int (σ.1 59)) rfl dX6_qPartOf_59 ?_
    refine lv_i2l (v := (σ.1 59).toInt64) hx hb dX6_qPartOf_62 rfl ?_
    exact m_lret' S hr hlk hM hS h dX6_qPartOf_63
  replace h := ie c4 h
  by_cases c6 : a1 = 3
  · replace h := it c6 h
    refine lv_tableIn (off := 63) (tgt := 64) hx hb dX6_qPartOf_1 (by rw [c6]; decide) (by rw [c6]; decide) (by rw [c6]; rfl) (by decide) ?_
    refine lv_aload_n hx hb dX6_qPartOf_64 rfl (lv_at hl 0 rfl) ?_
    refine lv_iload_n hx hb dX6_qPartOf_65 rfl (lv_at hl 2 rfl) ?_
    replace h := ob h
    obtain ⟨x5, hx5, h⟩ := h
    refine kX6_partsOf S hK hM hS hx5 ⟨Nat.le_of_ble_eq_true rfl, Nat.le_of_ble_eq_true rfl⟩ hl.1 (Nat.le_of_ble_eq_true rfl) dX6_qPartOf_66 (fun H locs hM hS => ?_)
    refine lv_i2l (v := x5.toInt64) hx hb dX6_qPartOf_69 rfl ?_
    exact m_lret' S hr hlk hM hS h dX6_qPartOf_70
  replace h := ie c6 h
  by_cases c8 : a1 = 4
  · replace h := it c8 h
    refine lv_tableIn (off := 70) (tgt := 71) hx hb dX6_qPartOf_1 (by rw [c8]; decide) (by rw [c8]; decide) (by rw [c8]; rfl) (by decide) ?_
    refine lv_aload_n hx hb dX6_qPartOf_71 rfl (lv_at hl 0 rfl) ?_
    refine lv_aload_n hx hb dX6_qPartOf_72 rfl (lv_at hl 0 rfl) ?_
    refine m_get S hK hM 57 (Nat.le_of_ble_eq_true rfl) q1789 (v := .int (σ.1 57)) rfl dX6_qPartOf_73 ?_
    refine lv_iload_n hx hb dX6_qPartOf_76 rfl (lv_at hl 2 rfl) ?_
    replace h := ob h
    obtain ⟨x7, hx7, h⟩ := h
    refine kX6_seenBy S hK hM hS hx7 ⟨Nat.le_of_ble_eq_true rfl, Nat.le_of_ble_eq_true rfl⟩ hl.1 (Nat.le_of_ble_eq_true rfl) dX6_qPartOf_77 (fun H locs hM hS => ?_)
    refine lv_i2l (v := x7.toInt64) hx hb dX6_qPartOf_80 rfl ?_
    exact m_lret' S hr hlk hM hS h dX6_qPartOf_81
  replace h := ie c8 h
  by_cases c10 : a1 = 5
  · replace h := it c10 h
    refine lv_tableIn (off := 81) (tgt := 82) hx hb dX6_qPartOf_1 (by rw [c10]; decide) (by rw [c10]; decide) (by rw [c10]; rfl) (by decide) ?_
    refine lv_aload_n hx hb dX6_qPartOf_82 rfl (lv_at hl 0 rfl) ?_
    refine lv_aload_n hx hb dX6_qPartOf_83 rfl (lv_at hl 0 rfl) ?_
    refine m_get S hK hM 57 (Nat.le_of_ble_eq_true rfl) q1789 (v := .int (σ.1 57)) rfl dX6_qPartOf_84 ?_
    refine lv_iload_n hx hb dX6_qPartOf_87 rfl (lv_at hl 2 rfl) ?_
    replace h := ob h
    obtain ⟨x9, hx9, h⟩ := h
    refine kX6_scoreOf S hK hM hS hx9 ⟨Nat.le_of_ble_eq_true rfl, Nat.le_of_ble_eq_true rfl⟩ hl.1 (Nat.le_of_ble_eq_true rfl) dX6_qPartOf_88 (fun H locs hM hS => ?_)
    refine lv_i2l (v := x9.toInt64) hx hb dX6_qPartOf_91 rfl ?_
    exact m_lret' S hr hlk hM hS h dX6_qPartOf_92
  replace h := ie c10 h
  by_cases c11 : a1 = 6
  · replace h := it c11 h
    refine lv_tableIn (off := 92) (tgt := 93) hx hb dX6_qPartOf_1 (by rw [c11]; decide) (by rw [c11]; decide) (by rw [c11]; rfl) (by decide) ?_
    refine lv_iload_n hx hb dX6_qPartOf_93 rfl (lv_at hl 2 rfl) ?_
    refine lv_i2l (v := a2.toInt64) hx hb dX6_qPartOf_94 rfl ?_
    exact m_lret' S hr hlk hM hS h dX6_qPartOf_95
  replace h := ie c11 h
  refine lv_tableOut (tgt := 96) hx hb dX6_qPartOf_1 (sw_out0_7 c2 c3 c4 c6 c8 c10 c11) (by decide) ?_
  refine lv_aload_n hx hb dX6_qPartOf_96 rfl (lv_at hl 0 rfl) ?_
  refine lv_aload_n hx hb dX6_qPartOf_97 rfl (lv_at hl 0 rfl) ?_
  refine m_get S hK hM 56 (Nat.le_of_ble_eq_true rfl) q1788 (v := .int (σ.1 56)) rfl dX6_qPartOf_98 ?_
  refine lv_iload_n hx hb dX6_qPartOf_101 rfl (lv_at hl 2 rfl) ?_
  replace h := ob h
  obtain ⟨x12, hx12, h⟩ := h
  refine kX6_worthOf S hK hM hS hx12 ⟨Nat.le_of_ble_eq_true rfl, Nat.le_of_ble_eq_true rfl⟩ hl.1 (Nat.le_of_ble_eq_true rfl) dX6_qPartOf_102 (fun H locs hM hS => ?_)
  refine lv_i2l (v := x12.toInt64) hx hb dX6_qPartOf_105 rfl ?_
  exact m_lret' S hr hlk hM hS h dX6_qPartOf_106
theorem kX6_qPartOf {p : Program} {l : Launch} {e : Env} {R : Room} {s : State} {m : MethodId} {args : Array Value} {below : List Frame} {meth : Method} {c : Code} {H H0 : Heap} {locs : List Loc} {Q : State → Prop} {cc : ByteArray} {nL pc : Nat} {ls : Array Slot} {rest : List Value} {G : mG} {b : Nat} {σ : MS} {a1 : Int32} {a2 : Int32} {x : Int64} (S : CallFix p m c cc nL s args lw_all RX6) (hK : mK G s) (hM : MW G b σ H) (hS : va_S (mB b) H0 H locs) (hf : fX6_qPartOf σ a1 a2 = some x) (hR : rmX6_qPartOf.frames + 1 ≤ R.frames ∧ 8 + (3 + 11) + rmX6_qPartOf.locals ≤ R.locals) (hsize : ls.size = nL) (hr : (rest.map fun v => v.category).sum ≤ 8) (hdg : decode cc pc = .ok (.invokevirtual 435, 3)) (kk : ∀ (H1 : Heap) (locs1 : List Loc), MW G b σ H1 → va_S (mB b) H0 H1 locs1 → W p l e R s m args below meth c H1 locs1 0 0 Q (F0 m (pc + 3) ls (.long x :: rest))) : W p l e R s m args below meth c H locs 0 0 Q (F0 m pc ls (.int a2 :: .int a1 :: .ref b :: rest)) :=
  m_cVl (As := [.int a1, .int a2]) S hK hM hS (metX6_qPartOf hf) (cwV 2 S.2.2.2.2 (lw_V q2362 q2364 qs129 q179 q2365) rfl rfl rfl (by decide +kernel) hR) ⟨Nat.zero_le _, Nat.zero_le _⟩ rfl hsize rfl hr hdg kk
/-! codesTell(II)J -/
abbrev rmX6_codesTell : Room := { frames := 4, cells := 0, slots := 0, locals := 68 }
def fX6_codesTell_144 (k19 : MS → Int32 → Int32 → Int32 → Option (MS × Int64)) (σ : MS) (a1 : Int32) (a2 : Int32) (a3 : Int32) : Option (MS × Int64) :=
  k19 σ a1 a2 (a3 + (1 : Int32))
def fX6_codesTell_19 : Nat → MS → Int32 → Int32 → Int32 → Option (MS × Int64)
  | 0, _, _, _, _ => none
  | n + 1, σ, a1, a2, a3 =>
    (aI σ 49 ((3 : Int32) + a1)).bind fun v1 =>
    if v1 ≤ a3 then
      (aL σ 97 (0 : Int32)).bind fun v3 =>
      some (σ, v3)
    else
    (aI σ 50 ((1600 : Int32) + a3)).bind fun v4 =>
    if v4 < (1000 : Int32) then
      if v4 < (40 : Int32) then
        if v4 = (13 : Int32) then
          (fX6_qPuts σ (1 : Int64)).bind fun x12 =>
          fX6_codesTell_144 (fun σ' b1 b2 b3 => fX6_codesTell_19 n σ' b1 b2 b3) x12 a1 a2 a3
        else
        if v4 = (12 : Int32) then
          (aL σ 97 ((σ.1 98) - (1 : Int32))).bind fun v10 =>
          (tL σ 97 ((σ.1 98) - (1 : Int32)) ((1 : Int64) - v10)).bind fun σ11 =>
          fX6_codesTell_144 (fun σ' b1 b2 b3 => fX6_codesTell_19 n σ' b1 b2 b3) σ11 a1 a2 a3
        else
        (fX6_qJoins σ v4).bind fun x9 =>
        fX6_codesTell_144 (fun σ' b1 b2 b3 => fX6_codesTell_19 n σ' b1 b2 b3) x9 a1 a2 a3
      else
      (fX6_qPartOf σ (v4 - (40 : Int32)) a2).bind fun x13 =>
      (fX6_qPuts σ x13).bind fun x14 =>
      fX6_codesTell_144 (fun σ' b1 b2 b3 => fX6_codesTell_19 n σ' b1 b2 b3) x14 a1 a2 a3
    else
    (fX6_qPuts σ ((v4 - (1000 : Int32)).toInt64)).bind fun x15 =>
    fX6_codesTell_144 (fun σ' b1 b2 b3 => fX6_codesTell_19 n σ' b1 b2 b3) x15 a1 a2 a3
def fX6_codesTell (σ : MS) (a1 : Int32) (a2 : Int32) : Option (MS × Int64) :=
  (aI (sI (sI σ 53 a1) 98 (0 : Int32)) 48 ((3 : Int32) + a1)).bind fun v1 =>
  fX6_codesTell_19 FU (sI (sI σ 53 a1) 98 (0 : Int32)) a1 a2 v1
set_option maxHeartbeats 4000000 in
theorem wX6_codesTell_144 {p : Program} {l : Launch} {e : Env} {s : State} {m : MethodId} {args : Array Value} {below : List Frame} {meth : Method} {c : Code} {G : mG} {b : Nat} (S : CallFix p m c cX6_codesTell 5 s args lw_all RX6) (hr : meth.sig.returnType = some .long) (hlk : meth.locks = false) (hK : mK G s) {x : MS × Int64} {k19 : MS → Int32 → Int32 → Int32 → Option (MS × Int64)} (hk19 : ∀ σ a1 a2 a3, k19 σ a1 a2 a3 = some x → mGo p l e rmX6_codesTell s m args below meth c G b (MQ below (mQl G b x) args s 0 0 (mB b)) 5 19 [(0, .ref b), (1, .int a1), (2, .int a2), (3, .int a3)] [] σ) : ∀ (σ : MS) (a1 : Int32) (a2 : Int32) (a3 : Int32), fX6_codesTell_144 k19 σ a1 a2 a3 = some x → mGo p l e rmX6_codesTell s m args below meth c G b (MQ below (mQl G b x) args s 0 0 (mB b)) 5 144 [(0, .ref b), (1, .int a1), (2, .int a2), (3, .int a3)] [] σ := by
  obtain ⟨hx, hb, hml, hown, hts⟩ := id S
  intro σ a1 a2 a3 h H locs hM hS ls hl
  unfold fX6_codesTell_144 at h
  refine lv_iinc (v := (a3 + (1 : Int32))) (lv' := [(3, .int (a3 + (1 : Int32))), (0, .ref b), (1, .int a1), (2, .int a2)]) hx hb dX6_codesTell_144 hl (k := 3) rfl rfl (by decide) rfl (fun ls hl => ?_)
  refine lv_goto (tgt := 19) hx hb dX6_codesTell_147 (by decide) ?_
  exact hk19 σ a1 a2 (a3 + (1 : Int32)) h _ _ hM hS _ (lv_sub hl [1, 2, 3, 0] rfl)
set_option maxHeartbeats 4000000 in
theorem wX6_codesTell_19 {p : Program} {l : Launch} {e : Env} {s : State} {m : MethodId} {args : Array Value} {below : List Frame} {meth : Method} {c : Code} {G : mG} {b : Nat} (S : CallFix p m c cX6_codesTell 5 s args lw_all RX6) (hr : meth.sig.returnType = some .long) (hlk : meth.locks = false) (hK : mK G s) {x : MS × Int64} : ∀ (n : Nat) (σ : MS) (a1 : Int32) (a2 : Int32) (a3 : Int32), fX6_codesTell_19 n σ a1 a2 a3 = some x → mGo p l e rmX6_codesTell s m args below meth c G b (MQ below (mQl G b x) args s 0 0 (mB b)) 5 19 [(0, .ref b), (1, .int a1), (2, .int a2), (3, .int a3)] [] σ := by
  obtain ⟨hx, hb, hml, hown, hts⟩ := id S
  intro n
  induction n with
  | zero => intro σ a1 a2 a3 h; cases h
  | succ n ih =>
    intro σ a1 a2 a3 h H locs hM hS ls hl
    rw [fX6_codesTell_19] at h
    refine lv_iload_n hx hb dX6_codesTell_19 rfl (lv_at hl 3 rfl) ?_
    refine lv_aload_n hx hb dX6_codesTell_20 rfl (lv_at hl 0 rfl) ?_
    refine m_get S hK hM 49 (Nat.le_of_ble_eq_true rfl) q1781 (v := .ref (ma b 49)) rfl dX6_codesTell_21 ?_
    refine lv_iconst (v := (3 : Int32)) hx hb dX6_codesTell_24 (by decide) ?_
    refine lv_iload_n hx hb dX6_codesTell_25 rfl (lv_at hl 1 rfl) ?_
    refine lv_iadd hx hb dX6_codesTell_26 ?_
    replace h := ob h
    obtain ⟨v1, hv1, h⟩ := h
    refine m_iald S hK hM 49 rfl hv1 dX6_codesTell_27 ?_
    refine lv_icmp_ge (tgt := 150) hx hb dX6_codesTell_28 (by decide) (fun c2 => ?_) (fun c2 => ?_)
    · replace h := it c2 h
      refine lv_aload_n hx hb dX6_codesTell_150 rfl (lv_at hl 0 rfl) ?_
      refine m_get S hK hM 97 (Nat.le_of_ble_eq_true rfl) q1829 (v := .ref (ma b 97)) rfl dX6_codesTell_151 ?_
      refine lv_iconst (v := (0 : Int32)) hx hb dX6_codesTell_154 (by decide) ?_
      replace h := ob h
      obtain ⟨v3, hv3, h⟩ := h
      refine m_lald S hK hM 97 rfl hv3 dX6_codesTell_155 ?_
      exact m_lret S hr hlk hM hS h dX6_codesTell_156
    replace h := ie c2 h
    refine lv_aload_n hx hb dX6_codesTell_31 rfl (lv_at hl 0 rfl) ?_
    refine m_get S hK hM 50 (Nat.le_of_ble_eq_true rfl) q1782 (v := .ref (ma b 50)) rfl dX6_codesTell_32 ?_
    refine lv_sipush (v := (1600 : Int32)) hx hb dX6_codesTell_35 (by decide) ?_
    refine lv_iload_n hx hb dX6_codesTell_38 rfl (lv_at hl 3 rfl) ?_
    refine lv_iadd hx hb dX6_codesTell_39 ?_
    replace h := ob h
    obtain ⟨v4, hv4, h⟩ := h
    refine m_iald S hK hM 50 rfl hv4 dX6_codesTell_40 ?_
    refine lv_istore (lv' := [(4, .int v4), (0, .ref b), (1, .int a1), (2, .int a2), (3, .int a3)]) hx hb dX6_codesTell_41 hl (by decide) rfl (fun ls hl => ?_)
    refine lv_iload hx hb dX6_codesTell_43 (lv_at hl 0 rfl) ?_
    refine lv_sipush (v := (1000 : Int32)) hx hb dX6_codesTell_45 (by decide) ?_
    refine lv_icmp_lt (tgt := 65) hx hb dX6_codesTell_48 (by decide) (fun c5 => ?_) (fun c5 => ?_)
    rotate_left 1
    · replace h := ie c5 h
      refine lv_aload_n hx hb dX6_codesTell_51 rfl (lv_at hl 1 rfl) ?_
      refine lv_iload hx hb dX6_codesTell_52 (lv_at hl 0 rfl) ?_
      refine lv_sipush (v := (1000 : Int32)) hx hb dX6_codesTell_54 (by decide) ?_
      refine lv_isub hx hb dX6_codesTell_57 ?_
      refine lv_i2l (v := (v4 - (1000 : Int32)).toInt64) hx hb dX6_codesTell_58 rfl ?_
      replace h := ob h
      obtain ⟨x15, hx15, h⟩ := h
      refine kX6_qPuts S hK hM hS hx15 ⟨Nat.le_of_ble_eq_true rfl, Nat.le_of_ble_eq_true rfl⟩ hl.1 (Nat.le_of_ble_eq_true rfl) dX6_codesTell_59 (fun H locs hM hS => ?_)
      refine lv_goto (tgt := 144) hx hb dX6_codesTell_62 (by decide) ?_
      exact wX6_codesTell_144 S hr hlk hK ih x15 a1 a2 a3 h _ _ hM hS _ (lv_sub hl [1, 2, 3, 4] rfl)
    replace h := it c5 h
    refine lv_iload hx hb dX6_codesTell_65 (lv_at hl 0 rfl) ?_
    refine lv_bipush (v := (40 : Int32)) hx hb dX6_codesTell_67 (by decide) ?_
    refine lv_icmp_lt (tgt := 89) hx hb dX6_codesTell_69 (by decide) (fun c6 => ?_) (fun c6 => ?_)
    rotate_left 1
    · replace h := ie c6 h
      refine lv_aload_n hx hb dX6_codesTell_72 rfl (lv_at hl 1 rfl) ?_
      refine lv_aload_n hx hb dX6_codesTell_73 rfl (lv_at hl 1 rfl) ?_
      refine lv_iload hx hb dX6_codesTell_74 (lv_at hl 0 rfl) ?_
      refine lv_bipush (v := (40 : Int32)) hx hb dX6_codesTell_76 (by decide) ?_
      refine lv_isub hx hb dX6_codesTell_78 ?_
      refine lv_iload_n hx hb dX6_codesTell_79 rfl (lv_at hl 3 rfl) ?_
      replace h := ob h
      obtain ⟨x13, hx13, h⟩ := h
      refine kX6_qPartOf S hK hM hS hx13 ⟨Nat.le_of_ble_eq_true rfl, Nat.le_of_ble_eq_true rfl⟩ hl.1 (Nat.le_of_ble_eq_true rfl) dX6_codesTell_80 (fun H locs hM hS => ?_)
      replace h := ob h
      obtain ⟨x14, hx14, h⟩ := h
      refine kX6_qPuts S hK hM hS hx14 ⟨Nat.le_of_ble_eq_true rfl, Nat.le_of_ble_eq_true rfl⟩ hl.1 (Nat.le_of_ble_eq_true rfl) dX6_codesTell_83 (fun H locs hM hS => ?_)
      refine lv_goto (tgt := 144) hx hb dX6_codesTell_86 (by decide) ?_
      exact wX6_codesTell_144 S hr hlk hK ih x14 a1 a2 a3 h _ _ hM hS _ (lv_sub hl [1, 2, 3, 4] rfl)
    replace h := it c6 h
    refine lv_iload hx hb dX6_codesTell_89 (lv_at hl 0 rfl) ?_
    refine lv_bipush (v := (13 : Int32)) hx hb dX6_codesTell_91 (by decide) ?_
    refine lv_icmp_ne (tgt := 104) hx hb dX6_codesTell_93 (by decide) (fun c7 => ?_) (fun c7 => ?_)
    rotate_left 1
    · replace h := it c7 h
      refine lv_aload_n hx hb dX6_codesTell_96 rfl (lv_at hl 1 rfl) ?_
      refine lv_lconst (v := (1 : Int64)) hx hb dX6_codesTell_97 (by decide) ?_
      replace h := ob h
      obtain ⟨x12, hx12, h⟩ := h
      refine kX6_qPuts S hK hM hS hx12 ⟨Nat.le_of_ble_eq_true rfl, Nat.le_of_ble_eq_true rfl⟩ hl.1 (Nat.le_of_ble_eq_true rfl) dX6_codesTell_98 (fun H locs hM hS => ?_)
      refine lv_goto (tgt := 144) hx hb dX6_codesTell_101 (by decide) ?_
      exact wX6_codesTell_144 S hr hlk hK ih x12 a1 a2 a3 h _ _ hM hS _ (lv_sub hl [1, 2, 3, 4] rfl)
    replace h := ie c7 h
    refine lv_iload hx hb dX6_codesTell_104 (lv_at hl 0 rfl) ?_
    refine lv_bipush (v := (12 : Int32)) hx hb dX6_codesTell_106 (by decide) ?_
    refine lv_icmp_ne (tgt := 138) hx hb dX6_codesTell_108 (by decide) (fun c8 => ?_) (fun c8 => ?_)
    · replace h := ie c8 h
      refine lv_aload_n hx hb dX6_codesTell_138 rfl (lv_at hl 1 rfl) ?_
      refine lv_iload hx hb dX6_codesTell_139 (lv_at hl 0 rfl) ?_
      replace h := ob h
      obtain ⟨x9, hx9, h⟩ := h
      refine kX6_qJoins S hK hM hS hx9 ⟨Nat.le_of_ble_eq_true rfl, Nat.le_of_ble_eq_true rfl⟩ hl.1 (Nat.le_of_ble_eq_true rfl) dX6_codesTell_141 (fun H locs hM hS => ?_)
      exact wX6_codesTell_144 S hr hlk hK ih x9 a1 a2 a3 h _ _ hM hS _ (lv_sub hl [1, 2, 3, 4] rfl)
    replace h := it c8 h
    refine lv_aload_n hx hb dX6_codesTell_111 rfl (lv_at hl 1 rfl) ?_
    refine m_get S hK hM 97 (Nat.le_of_ble_eq_true rfl) q1829 (v := .ref (ma b 97)) rfl dX6_codesTell_112 ?_
    refine lv_aload_n hx hb dX6_codesTell_115 rfl (lv_at hl 1 rfl) ?_
    refine m_get S hK hM 98 (Nat.le_of_ble_eq_true rfl) q1830 (v := .int (σ.1 98)) rfl dX6_codesTell_116 ?_
    refine lv_iconst (v := (1 : Int32)) hx hb dX6_codesTell_119 (by decide) ?_
    refine lv_isub hx hb dX6_codesTell_120 ?_
    refine lv_lconst (v := (1 : Int64)) hx hb dX6_codesTell_121 (by decide) ?_
    refine lv_aload_n hx hb dX6_codesTell_122 rfl (lv_at hl 1 rfl) ?_
    refine m_get S hK hM 97 (Nat.le_of_ble_eq_true rfl) q1829 (v := .ref (ma b 97)) rfl dX6_codesTell_123 ?_
    refine lv_aload_n hx hb dX6_codesTell_126 rfl (lv_at hl 1 rfl) ?_
    refine m_get S hK hM 98 (Nat.le_of_ble_eq_true rfl) q1830 (v := .int (σ.1 98)) rfl dX6_codesTell_127 ?_
    refine lv_iconst (v := (1 : Int32)) hx hb dX6_codesTell_130 (by decide) ?_
    refine lv_isub hx hb dX6_codesTell_131 ?_
    replace h := ob h
    obtain ⟨v10, hv10, h⟩ := h
    refine m_lald S hK hM 97 rfl hv10 dX6_codesTell_132 ?_
    refine lv_lsub hx hb dX6_codesTell_133 ?_
    replace h := ob h
    obtain ⟨σ11, hσ11, h⟩ := h
    refine m_last S hK hM hS 97 rfl hσ11 dX6_codesTell_134 (fun H locs hM hS => ?_)
    refine lv_goto (tgt := 144) hx hb dX6_codesTell_135 (by decide) ?_
    exact wX6_codesTell_144 S hr hlk hK ih σ11 a1 a2 a3 h _ _ hM hS _ (lv_sub hl [1, 2, 3, 4] rfl)
set_option maxHeartbeats 4000000 in
theorem metX6_codesTell {l : Launch} {G : mG} {b : Nat} {σ : MS} {a1 : Int32} {a2 : Int32} {x : MS × Int64} (h : fX6_codesTell σ a1 a2 = some x) : Met l yX6_codesTell (ws_ yX6_codesTell cX6_codesTell 5 (some .long)) rmX6_codesTell (mP G b σ [.ref b, .int a1, .int a2]) (mQl G b x) 0 0 (mB b) := by
  refine m_entry (by decide) rfl (Nat.le_of_ble_eq_true rfl) ?_
  intro p e s m below meth c S hr hlk hK hM hS ls hl
  replace hl : lv_has ls 5 [(0, .ref b), (1, .int a1), (2, .int a2)] := hl
  obtain ⟨hx, hb, hml, hown, hts⟩ := id S
  unfold fX6_codesTell at h
  refine lv_aload_n hx hb dX6_codesTell_0 rfl (lv_at hl 0 rfl) ?_
  refine lv_iload_n hx hb dX6_codesTell_1 rfl (lv_at hl 1 rfl) ?_
  refine m_putI S hK hM hS 53 (Nat.le_of_ble_eq_true rfl) rfl q1785 rfl (ty := .int) rfl rfl rfl dX6_codesTell_2 (fun H locs hM hS => ?_)
  refine lv_aload_n hx hb dX6_codesTell_5 rfl (lv_at hl 0 rfl) ?_
  refine lv_iconst (v := (0 : Int32)) hx hb dX6_codesTell_6 (by decide) ?_
  refine m_putI S hK hM hS 98 (Nat.le_of_ble_eq_true rfl) rfl q1830 rfl (ty := .int) rfl rfl rfl dX6_codesTell_7 (fun H locs hM hS => ?_)
  refine lv_aload_n hx hb dX6_codesTell_10 rfl (lv_at hl 0 rfl) ?_
  refine m_get S hK hM 48 (Nat.le_of_ble_eq_true rfl) q1780 (v := .ref (ma b 48)) rfl dX6_codesTell_11 ?_
  refine lv_iconst (v := (3 : Int32)) hx hb dX6_codesTell_14 (by decide) ?_
  refine lv_iload_n hx hb dX6_codesTell_15 rfl (lv_at hl 1 rfl) ?_
  refine lv_iadd hx hb dX6_codesTell_16 ?_
  replace h := ob h
  obtain ⟨v1, hv1, h⟩ := h
  refine m_iald S hK hM 48 rfl hv1 dX6_codesTell_17 ?_
  refine lv_istore_n (lv' := [(3, .int v1), (0, .ref b), (1, .int a1), (2, .int a2)]) hx hb dX6_codesTell_18 rfl hl (by decide) rfl (fun ls hl => ?_)
  exact wX6_codesTell_19 S hr hlk hK FU (sI (sI σ 53 a1) 98 (0 : Int32)) a1 a2 v1 h _ _ hM hS _ (lv_sub hl [1, 2, 3, 0] rfl)
theorem kX6_codesTell {p : Program} {l : Launch} {e : Env} {R : Room} {s : State} {m : MethodId} {args : Array Value} {below : List Frame} {meth : Method} {c : Code} {H H0 : Heap} {locs : List Loc} {Q : State → Prop} {cc : ByteArray} {nL pc : Nat} {ls : Array Slot} {rest : List Value} {G : mG} {b : Nat} {σ : MS} {a1 : Int32} {a2 : Int32} {x : MS × Int64} (S : CallFix p m c cc nL s args lw_all RX6) (hK : mK G s) (hM : MW G b σ H) (hS : va_S (mB b) H0 H locs) (hf : fX6_codesTell σ a1 a2 = some x) (hR : rmX6_codesTell.frames + 1 ≤ R.frames ∧ 8 + (5 + 11) + rmX6_codesTell.locals ≤ R.locals) (hsize : ls.size = nL) (hr : (rest.map fun v => v.category).sum ≤ 8) (hdg : decode cc pc = .ok (.invokevirtual 451, 3)) (kk : ∀ (H1 : Heap) (locs1 : List Loc), MW G b x.1 H1 → va_S (mB b) H0 H1 locs1 → W p l e R s m args below meth c H1 locs1 0 0 Q (F0 m (pc + 3) ls (.long x.2 :: rest))) : W p l e R s m args below meth c H locs 0 0 Q (F0 m pc ls (.int a2 :: .int a1 :: .ref b :: rest)) :=
  m_cVl (As := [.int a1, .int a2]) S hK hM hS (metX6_codesTell hf) (cwV 2 S.2.2.2.2 (lw_V q2354 q2356 qs127 q179 q2357) rfl rfl rfl (by decide +kernel) hR) ⟨Nat.zero_le _, Nat.zero_le _⟩ rfl hsize rfl hr hdg kk
/-! may(II)Z -/
abbrev rmX6_may : Room := { frames := 5, cells := 0, slots := 0, locals := 92 }
def fX6_may_42 (σ : MS) : Option (MS × Int32) :=
  some (σ, (1 : Int32))
def fX6_may (σ : MS) (a1 : Int32) (a2 : Int32) : Option (MS × Int32) :=
  (fX6_seenBy σ a1 a2).bind fun x1 =>
  (fX6_partsOf σ a2).bind fun x2 =>
  if x1 = x2 then
    some (σ, (0 : Int32))
  else
  (aI (sI σ 57 a1) 48 (5 : Int32)).bind fun v4 =>
  if v4 = (-1 : Int32) then
    fX6_may_42 (sI σ 57 a1)
  else
  (fX6_codesTell (sI σ 57 a1) (2 : Int32) a2).bind fun x6 =>
  if x6.2 = (1 : Int64) then
    fX6_may_42 x6.1
  else
  some (x6.1, (0 : Int32))
set_option maxHeartbeats 4000000 in
theorem wX6_may_42 {p : Program} {l : Launch} {e : Env} {s : State} {m : MethodId} {args : Array Value} {below : List Frame} {meth : Method} {c : Code} {G : mG} {b : Nat} (S : CallFix p m c cX6_may 3 s args lw_all RX6) (hr : meth.sig.returnType = some .boolean) (hlk : meth.locks = false) (hK : mK G s) {x : MS × Int32} : ∀ (σ : MS), fX6_may_42 σ = some x → mGo p l e rmX6_may s m args below meth c G b (MQ below (mQi G b x) args s 0 0 (mB b)) 3 42 [(0, .ref b)] [] σ := by
  obtain ⟨hx, hb, hml, hown, hts⟩ := id S
  intro σ h H locs hM hS ls hl
  unfold fX6_may_42 at h
  refine lv_iconst (v := (1 : Int32)) hx hb dX6_may_42 (by decide) ?_
  refine lv_goto (tgt := 47) hx hb dX6_may_43 (by decide) ?_
  exact m_iret S hr hlk rfl hM hS h dX6_may_47
set_option maxHeartbeats 4000000 in
theorem metX6_may {l : Launch} {G : mG} {b : Nat} {σ : MS} {a1 : Int32} {a2 : Int32} {x : MS × Int32} (h : fX6_may σ a1 a2 = some x) : Met l yX6_may (ws_ yX6_may cX6_may 3 (some .boolean)) rmX6_may (mP G b σ [.ref b, .int a1, .int a2]) (mQi G b x) 0 0 (mB b) := by
  refine m_entry (by decide) rfl (Nat.le_of_ble_eq_true rfl) ?_
  intro p e s m below meth c S hr hlk hK hM hS ls hl
  replace hl : lv_has ls 3 [(0, .ref b), (1, .int a1), (2, .int a2)] := hl
  obtain ⟨hx, hb, hml, hown, hts⟩ := id S
  unfold fX6_may at h
  refine lv_aload_n hx hb dX6_may_0 rfl (lv_at hl 0 rfl) ?_
  refine lv_iload_n hx hb dX6_may_1 rfl (lv_at hl 1 rfl) ?_
  refine lv_iload_n hx hb dX6_may_2 rfl (lv_at hl 2 rfl) ?_
  replace h := ob h
  obtain ⟨x1, hx1, h⟩ := h
  refine kX6_seenBy S hK hM hS hx1 ⟨Nat.le_of_ble_eq_true rfl, Nat.le_of_ble_eq_true rfl⟩ hl.1 (Nat.le_of_ble_eq_true rfl) dX6_may_3 (fun H locs hM hS => ?_)
  refine lv_aload_n hx hb dX6_may_6 rfl (lv_at hl 0 rfl) ?_
  refine lv_iload_n hx hb dX6_may_7 rfl (lv_at hl 2 rfl) ?_
  replace h := ob h
  obtain ⟨x2, hx2, h⟩ := h
  refine kX6_partsOf S hK hM hS hx2 ⟨Nat.le_of_ble_eq_true rfl, Nat.le_of_ble_eq_true rfl⟩ hl.1 (Nat.le_of_ble_eq_true rfl) dX6_may_8 (fun H locs hM hS => ?_)
  refine lv_icmp_ne (tgt := 16) hx hb dX6_may_11 (by decide) (fun c3 => ?_) (fun c3 => ?_)
  rotate_left 1
  · replace h := it c3 h
    refine lv_iconst (v := (0 : Int32)) hx hb dX6_may_14 (by decide) ?_
    exact m_iret S hr hlk rfl hM hS h dX6_may_15
  replace h := ie c3 h
  refine lv_aload_n hx hb dX6_may_16 rfl (lv_at hl 0 rfl) ?_
  refine lv_iload_n hx hb dX6_may_17 rfl (lv_at hl 1 rfl) ?_
  refine m_putI S hK hM hS 57 (Nat.le_of_ble_eq_true rfl) rfl q1789 rfl (ty := .int) rfl rfl rfl dX6_may_18 (fun H locs hM hS => ?_)
  refine lv_aload_n hx hb dX6_may_21 rfl (lv_at hl 0 rfl) ?_
  refine m_get S hK hM 48 (Nat.le_of_ble_eq_true rfl) q1780 (v := .ref (ma b 48)) rfl dX6_may_22 ?_
  refine lv_iconst (v := (5 : Int32)) hx hb dX6_may_25 (by decide) ?_
  replace h := ob h
  obtain ⟨v4, hv4, h⟩ := h
  refine m_iald S hK hM 48 rfl hv4 dX6_may_26 ?_
  refine lv_iconst (v := (-1 : Int32)) hx hb dX6_may_27 (by decide) ?_
  refine lv_icmp_eq (tgt := 42) hx hb dX6_may_28 (by decide) (fun c5 => ?_) (fun c5 => ?_)
  · replace h := it c5 h
    exact wX6_may_42 S hr hlk hK (sI σ 57 a1) h _ _ hM hS _ (lv_sub hl [0] rfl)
  replace h := ie c5 h
  refine lv_aload_n hx hb dX6_may_31 rfl (lv_at hl 0 rfl) ?_
  refine lv_iconst (v := (2 : Int32)) hx hb dX6_may_32 (by decide) ?_
  refine lv_iload_n hx hb dX6_may_33 rfl (lv_at hl 2 rfl) ?_
  replace h := ob h
  obtain ⟨x6, hx6, h⟩ := h
  refine kX6_codesTell S hK hM hS hx6 ⟨Nat.le_of_ble_eq_true rfl, Nat.le_of_ble_eq_true rfl⟩ hl.1 (Nat.le_of_ble_eq_true rfl) dX6_may_34 (fun H locs hM hS => ?_)
  refine lv_lconst (v := (1 : Int64)) hx hb dX6_may_37 (by decide) ?_
  refine m_lcmp S dX6_may_38 ?_
  refine lv_if_ne (tgt := 46) hx hb dX6_may_39 (by decide) (fun c7 => ?_) (fun c7 => ?_)
  rotate_left 1
  · replace h := it ((lg_cmp_eq _ _).mp c7) h
    exact wX6_may_42 S hr hlk hK x6.1 h _ _ hM hS _ (lv_sub hl [0] rfl)
  replace h := ie (fun q => c7 ((lg_cmp_eq _ _).mpr q)) h
  refine lv_iconst (v := (0 : Int32)) hx hb dX6_may_46 (by decide) ?_
  exact m_iret S hr hlk rfl hM hS h dX6_may_47
theorem kX6_may {p : Program} {l : Launch} {e : Env} {R : Room} {s : State} {m : MethodId} {args : Array Value} {below : List Frame} {meth : Method} {c : Code} {H H0 : Heap} {locs : List Loc} {Q : State → Prop} {cc : ByteArray} {nL pc : Nat} {ls : Array Slot} {rest : List Value} {G : mG} {b : Nat} {σ : MS} {a1 : Int32} {a2 : Int32} {x : MS × Int32} (S : CallFix p m c cc nL s args lw_all RX6) (hK : mK G s) (hM : MW G b σ H) (hS : va_S (mB b) H0 H locs) (hf : fX6_may σ a1 a2 = some x) (hR : rmX6_may.frames + 1 ≤ R.frames ∧ 8 + (3 + 11) + rmX6_may.locals ≤ R.locals) (hsize : ls.size = nL) (hr : (rest.map fun v => v.category).sum ≤ 8) (hdg : decode cc pc = .ok (.invokevirtual 457, 3)) (kk : ∀ (H1 : Heap) (locs1 : List Loc), MW G b x.1 H1 → va_S (mB b) H0 H1 locs1 → W p l e R s m args below meth c H1 locs1 0 0 Q (F0 m (pc + 3) ls (.int x.2 :: rest))) : W p l e R s m args below meth c H locs 0 0 Q (F0 m pc ls (.int a2 :: .int a1 :: .ref b :: rest)) :=
  m_cVi (As := [.int a1, .int a2]) S hK hM hS (metX6_may hf) (cwV 2 S.2.2.2.2 (lw_V q2350 q2352 qs126 q179 q2353) rfl rfl rfl (by decide +kernel) hR) ⟨Nat.zero_le _, Nat.zero_le _⟩ rfl hsize rfl hr hdg kk
/-! profileOf(I)I -/
abbrev rmX6_profileOf : Room := { frames := 2, cells := 0, slots := 0, locals := 21 }
def fX6_profileOf (σ : MS) (a1 : Int32) : Option (Int32) :=
  (fX6_doesPress σ a1).bind fun x1 =>
  if x1 = 0 then
    some (0 : Int32)
  else
  some ((1 : Int32) + a1)
set_option maxHeartbeats 4000000 in
theorem metX6_profileOf {l : Launch} {G : mG} {b : Nat} {σ : MS} {a1 : Int32} {x : Int32} (h : fX6_profileOf σ a1 = some x) : Met l yX6_profileOf (ws_ yX6_profileOf cX6_profileOf 2 (some .int)) rmX6_profileOf (mP G b σ [.ref b, .int a1]) (mQi G b (σ, x)) 0 0 (mB b) := by
  refine m_entry (by decide) rfl (Nat.le_of_ble_eq_true rfl) ?_
  intro p e s m below meth c S hr hlk hK hM hS ls hl
  replace hl : lv_has ls 2 [(0, .ref b), (1, .int a1)] := hl
  obtain ⟨hx, hb, hml, hown, hts⟩ := id S
  unfold fX6_profileOf at h
  refine lv_aload_n hx hb dX6_profileOf_0 rfl (lv_at hl 0 rfl) ?_
  refine lv_iload_n hx hb dX6_profileOf_1 rfl (lv_at hl 1 rfl) ?_
  replace h := ob h
  obtain ⟨x1, hx1, h⟩ := h
  refine kX6_doesPress S hK hM hS hx1 ⟨Nat.le_of_ble_eq_true rfl, Nat.le_of_ble_eq_true rfl⟩ hl.1 (Nat.le_of_ble_eq_true rfl) dX6_profileOf_2 (fun H locs hM hS => ?_)
  refine lv_if_eq (tgt := 14) hx hb dX6_profileOf_5 (by decide) (fun c2 => ?_) (fun c2 => ?_)
  · replace h := it c2 h
    refine lv_iconst (v := (0 : Int32)) hx hb dX6_profileOf_14 (by decide) ?_
    exact m_iret' S hr hlk rfl hM hS h dX6_profileOf_15
  replace h := ie c2 h
  refine lv_iconst (v := (1 : Int32)) hx hb dX6_profileOf_8 (by decide) ?_
  refine lv_iload_n hx hb dX6_profileOf_9 rfl (lv_at hl 1 rfl) ?_
  refine lv_iadd hx hb dX6_profileOf_10 ?_
  refine lv_goto (tgt := 15) hx hb dX6_profileOf_11 (by decide) ?_
  exact m_iret' S hr hlk rfl hM hS h dX6_profileOf_15
theorem kX6_profileOf {p : Program} {l : Launch} {e : Env} {R : Room} {s : State} {m : MethodId} {args : Array Value} {below : List Frame} {meth : Method} {c : Code} {H H0 : Heap} {locs : List Loc} {Q : State → Prop} {cc : ByteArray} {nL pc : Nat} {ls : Array Slot} {rest : List Value} {G : mG} {b : Nat} {σ : MS} {a1 : Int32} {x : Int32} (S : CallFix p m c cc nL s args lw_all RX6) (hK : mK G s) (hM : MW G b σ H) (hS : va_S (mB b) H0 H locs) (hf : fX6_profileOf σ a1 = some x) (hR : rmX6_profileOf.frames + 1 ≤ R.frames ∧ 8 + (2 + 11) + rmX6_profileOf.locals ≤ R.locals) (hsize : ls.size = nL) (hr : (rest.map fun v => v.category).sum ≤ 8) (hdg : decode cc pc = .ok (.invokevirtual 454, 3)) (kk : ∀ (H1 : Heap) (locs1 : List Loc), MW G b σ H1 → va_S (mB b) H0 H1 locs1 → W p l e R s m args below meth c H1 locs1 0 0 Q (F0 m (pc + 3) ls (.int x :: rest))) : W p l e R s m args below meth c H locs 0 0 Q (F0 m pc ls (.int a1 :: .ref b :: rest)) :=
  m_cVi (As := [.int a1]) S hK hM hS (metX6_profileOf hf) (cwV 1 S.2.2.2.2 (lw_V q2346 q2348 qs125 q179 q2349) rfl rfl rfl (by decide +kernel) hR) ⟨Nat.zero_le _, Nat.zero_le _⟩ rfl hsize rfl hr hdg kk

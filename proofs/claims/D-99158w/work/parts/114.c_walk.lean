set_option maxRecDepth 100000
/-! FourOnOne.kinds()I -/
def fX0_kinds (K : KE) (h : HS) (a0 : Nat) : Option (Int32) :=
  (gR K h (some a0) 0 0).bind fun v1 =>
  (gR K h v1 1 6).bind fun v2 =>
  (rcv K h v2 19).bind fun b3 =>
  (fJ2_size K h b3).bind fun x4 =>
  some x4
set_option maxHeartbeats 4000000 in
theorem metX0_kinds {l : Launch} {A : Nat → Prop} {D : va_G} {ac : Nat → ClassId} {K : KE} {h : HS} {a0 : Nat} {x : Int32} (z : fX0_kinds K h a0 = some x) : Met l yX0_kinds (ws_ yX0_kinds cX0_kinds 1 (some .int)) (rmC 2 20 K h) (cP A D ac K h [va_rf (some a0)]) (cQi A D ac K (h, x)) (K.2.2.1 - h.2.1) (K.2.2.2 - h.2.2) A := by
  refine c_entry (plainFor_of_name (by decide)) (Nat.le_of_ble_eq_true rfl) ?_
  intro p e s m below meth c S hr hlk hnm hG hRM hH hS ls hl
  replace hl : lv_has ls 1 [(0, va_rf (some a0))] := hl
  replace hnm : meth.name = "kinds" := hnm
  replace S : CallFix p m c cX0_kinds 1 s _ lw_all RX0 := S
  obtain ⟨hx, hb, hml, hown, hts⟩ := id S
  unfold fX0_kinds at z
  refine c_aload_n hx hb dX0_kinds_0 rfl (lv_at hl 0 rfl) ?_
  replace z := ob z
  obtain ⟨v1, zv1, z⟩ := z
  obtain ⟨fsv1, yv1, zv1⟩ := gR_e zv1
  refine c_get S hG hH (ci := 0) (k := 0) rfl in_X0 (Nat.le_of_ble_eq_true rfl) q478 (fun _ y => y) yv1 zv1 dX0_kinds_1 ?_
  replace z := ob z
  obtain ⟨v2, zv2, z⟩ := z
  obtain ⟨fsv2, yv2, zv2⟩ := gR_e zv2
  refine c_getN S hG hH (ci := 1) (k := 6) rfl in_X1 (Nat.le_of_ble_eq_true rfl) q264 (fun _ y => y) yv2 zv2 dX0_kinds_4 ?_
  replace z := ob z
  obtain ⟨b3, zb3, z⟩ := z
  obtain ⟨yb3, zb3⟩ := rcv_e zb3
  replace z := ob z
  obtain ⟨x4, zx4, z⟩ := z
  refine c_callFi hH hS hRM (fun _ _ f1 f2 => va_runF (b := b3) (As := []) (rest := []) (hG.1.1 19 _ rfl).2 S (metJ2_size zx4) (va_cwF 0 hts (lw_app (lw_l4 q1273 q761 q763 q171) (lw_meth q765)) rfl rfl rfl hG.2.2.2.2.1.1 (by decide +kernel) ⟨(Nat.le_of_ble_eq_true rfl), (Nat.le_of_ble_eq_true rfl)⟩) (c_preV hG hH hS (ci := 19) rfl zb3) rfl rfl hl.1 (by rw [yb3]; rfl) (lv_room (Nat.le_of_ble_eq_true rfl)) dX0_kinds_7 ⟨f1, f2⟩) (fun H locs hH hS => ?_)
  exact c_iret' S hr hlk rfl hH hS z dX0_kinds_12
/-! FourOnOne.has(I)I -/
def fX0_has_2 (K : KE) (h : HS) (a0 : Nat) (a1 : Int32) : Option (Int32) :=
  if a1 = 0 then
    (rcv K h (some a0) 0).bind fun b1 =>
    (fX0_kinds K h b1).bind fun x2 =>
    some x2
  else
  if a1 = 1 then
    (rcv K h (some a0) 0).bind fun b4 =>
    (fX0_films K h b4).bind fun x5 =>
    some x5
  else
  if a1 = 2 then
    (rcv K h (some a0) 0).bind fun b7 =>
    (fX0_people K h b7).bind fun x8 =>
    some x8
  else
  if a1 = 3 then
    (gR K h (some a0) 0 0).bind fun v10 =>
    (gI K h v10 1 2).bind fun v11 =>
    some v11
  else
  if a1 = 4 then
    (gR K h (some a0) 0 9).bind fun v13 =>
    (gI K h v13 5 0).bind fun v14 =>
    some (v14 / (24 : Int32))
  else
  if a1 = 5 then
    (gR K h (some a0) 0 9).bind fun v16 =>
    (gI K h v16 5 0).bind fun v17 =>
    some (v17 - v17 / (24 : Int32) * (24 : Int32))
  else
  if a1 = 6 then
    (gR K h (some a0) 0 9).bind fun v19 =>
    (gI K h v19 5 1).bind fun v20 =>
    (fJ16_bitCount K h v20).bind fun x21 =>
    some x21
  else
  if a1 = 7 then
    (rcv K h (some a0) 0).bind fun b23 =>
    (fX0_allSaw K h b23).bind fun x24 =>
    some x24
  else
  if a1 = 8 then
    (gR K h (some a0) 0 9).bind fun v26 =>
    (gI K h v26 5 2).bind fun v27 =>
    some v27
  else
  if a1 = 9 then
    (gI K h (some a0) 0 15).bind fun v29 =>
    some v29
  else
  if a1 = 10 then
    (gI K h (some a0) 0 17).bind fun v31 =>
    some v31
  else
  some (-1 : Int32)
set_option maxHeartbeats 4000000 in
theorem metX0_has_2 {l : Launch} {A : Nat → Prop} {D : va_G} {ac : Nat → ClassId} {K : KE} {h : HS} {a0 : Nat} {a1 : Int32} {x : Int32} (z : fX0_has_2 K h a0 a1 = some x) : Met l yX0_has_2 (ws_ yX0_has_2 cX0_has_2 2 (some .int)) (rmC 4 62 K h) (cP A D ac K h [va_rf (some a0), .int a1]) (cQi A D ac K (h, x)) (K.2.2.1 - h.2.1) (K.2.2.2 - h.2.2) A := by
  refine c_entry (plainFor_of_name (by decide)) (Nat.le_of_ble_eq_true rfl) ?_
  intro p e s m below meth c S hr hlk hnm hG hRM hH hS ls hl
  replace hl : lv_has ls 2 [(0, va_rf (some a0)), (1, .int a1)] := hl
  replace hnm : meth.name = "has" := hnm
  replace S : CallFix p m c cX0_has_2 2 s _ lw_all RX0 := S
  obtain ⟨hx, hb, hml, hown, hts⟩ := id S
  unfold fX0_has_2 at z
  refine lv_iload_n hx hb dX0_has_2_0 rfl (lv_at hl 1 rfl) ?_
  by_cases c3 : a1 = 0
  · replace z := it c3 z
    refine lv_tableIn (off := 59) (tgt := 60) hx hb dX0_has_2_1 (by rw [c3]; decide) (by rw [c3]; decide) (by rw [c3]; rfl) (by decide) ?_
    refine c_aload_n hx hb dX0_has_2_60 rfl (lv_at hl 0 rfl) ?_
    replace z := ob z
    obtain ⟨b1, zb1, z⟩ := z
    obtain ⟨yb1, zb1⟩ := rcv_e zb1
    replace z := ob z
    obtain ⟨x2, zx2, z⟩ := z
    refine c_calli hH hS hRM (fun _ _ f1 f2 => va_runV (b := b1) (As := []) (rest := []) S (metX0_kinds zx2) (cwV 0 hts (lw_V q1268 q1270 qs35 q167 q1271) rfl rfl rfl (by decide +kernel) ⟨(Nat.le_of_ble_eq_true rfl), (Nat.le_of_ble_eq_true rfl)⟩) (c_preV hG hH hS (ci := 0) rfl zb1) rfl rfl hl.1 (by rw [yb1]; rfl) (lv_room (Nat.le_of_ble_eq_true rfl)) dX0_has_2_61 ⟨f1, f2⟩) (fun H locs hH hS => ?_)
    exact c_iret' S hr hlk rfl hH hS z dX0_has_2_64
  replace z := ie c3 z
  by_cases c6 : a1 = 1
  · replace z := it c6 z
    refine lv_tableIn (off := 64) (tgt := 65) hx hb dX0_has_2_1 (by rw [c6]; decide) (by rw [c6]; decide) (by rw [c6]; rfl) (by decide) ?_
    refine c_aload_n hx hb dX0_has_2_65 rfl (lv_at hl 0 rfl) ?_
    replace z := ob z
    obtain ⟨b4, zb4, z⟩ := z
    obtain ⟨yb4, zb4⟩ := rcv_e zb4
    replace z := ob z
    obtain ⟨x5, zx5, z⟩ := z
    refine c_calli hH hS hRM (fun _ _ f1 f2 => va_runV (b := b4) (As := []) (rest := []) S (metX0_films zx5) (cwV 0 hts (lw_V q1274 q1276 qs36 q167 q1277) rfl rfl rfl (by decide +kernel) ⟨(Nat.le_of_ble_eq_true rfl), (Nat.le_of_ble_eq_true rfl)⟩) (c_preV hG hH hS (ci := 0) rfl zb4) rfl rfl hl.1 (by rw [yb4]; rfl) (lv_room (Nat.le_of_ble_eq_true rfl)) dX0_has_2_66 ⟨f1, f2⟩) (fun H locs hH hS => ?_)
    exact c_iret' S hr hlk rfl hH hS z dX0_has_2_69
  replace z := ie c6 z
  by_cases c9 : a1 = 2
  · replace z := it c9 z
    refine lv_tableIn (off := 69) (tgt := 70) hx hb dX0_has_2_1 (by rw [c9]; decide) (by rw [c9]; decide) (by rw [c9]; rfl) (by decide) ?_
    refine c_aload_n hx hb dX0_has_2_70 rfl (lv_at hl 0 rfl) ?_
    replace z := ob z
    obtain ⟨b7, zb7, z⟩ := z
    obtain ⟨yb7, zb7⟩ := rcv_e zb7
    replace z := ob z
    obtain ⟨x8, zx8, z⟩ := z
    refine c_calli hH hS hRM (fun _ _ f1 f2 => va_runV (b := b7) (As := []) (rest := []) S (metX0_people zx8) (cwV 0 hts (lw_V q1278 q1280 qs37 q167 q1281) rfl rfl rfl (by decide +kernel) ⟨(Nat.le_of_ble_eq_true rfl), (Nat.le_of_ble_eq_true rfl)⟩) (c_preV hG hH hS (ci := 0) rfl zb7) rfl rfl hl.1 (by rw [yb7]; rfl) (lv_room (Nat.le_of_ble_eq_true rfl)) dX0_has_2_71 ⟨f1, f2⟩) (fun H locs hH hS => ?_)
    exact c_iret' S hr hlk rfl hH hS z dX0_has_2_74
  replace z := ie c9 z
  by_cases c12 : a1 = 3
  · replace z := it c12 z
    refine lv_tableIn (off := 74) (tgt := 75) hx hb dX0_has_2_1 (by rw [c12]; decide) (by rw [c12]; decide) (by rw [c12]; rfl) (by decide) ?_
    refine c_aload_n hx hb dX0_has_2_75 rfl (lv_at hl 0 rfl) ?_
    replace z := ob z
    obtain ⟨v10, zv10, z⟩ := z
    obtain ⟨fsv10, yv10, zv10⟩ := gR_e zv10
    refine c_get S hG hH (ci := 0) (k := 0) rfl in_X0 (Nat.le_of_ble_eq_true rfl) q478 (fun _ y => y) yv10 zv10 dX0_has_2_76 ?_
    replace z := ob z
    obtain ⟨v11, zv11, z⟩ := z
    obtain ⟨fsv11, yv11, zv11⟩ := gI_e zv11
    refine c_getN S hG hH (ci := 1) (k := 2) rfl in_X1 (Nat.le_of_ble_eq_true rfl) q256 (fun _ y => y) yv11 zv11 dX0_has_2_79 ?_
    exact c_iret' S hr hlk rfl hH hS z dX0_has_2_82
  replace z := ie c12 z
  by_cases c15 : a1 = 4
  · replace z := it c15 z
    refine lv_tableIn (off := 82) (tgt := 83) hx hb dX0_has_2_1 (by rw [c15]; decide) (by rw [c15]; decide) (by rw [c15]; rfl) (by decide) ?_
    refine c_aload_n hx hb dX0_has_2_83 rfl (lv_at hl 0 rfl) ?_
    replace z := ob z
    obtain ⟨v13, zv13, z⟩ := z
    obtain ⟨fsv13, yv13, zv13⟩ := gR_e zv13
    refine c_get S hG hH (ci := 0) (k := 9) rfl in_X0 (Nat.le_of_ble_eq_true rfl) q489 (fun _ y => y) yv13 zv13 dX0_has_2_84 ?_
    replace z := ob z
    obtain ⟨v14, zv14, z⟩ := z
    obtain ⟨fsv14, yv14, zv14⟩ := gI_e zv14
    refine c_getN S hG hH (ci := 5) (k := 0) rfl in_X5 (Nat.le_of_ble_eq_true rfl) q430 (fun _ y => y) yv14 zv14 dX0_has_2_87 ?_
    refine lv_bipush (v := (24 : Int32)) hx hb dX0_has_2_90 (by decide) ?_
    refine lv_idiv hx hb dX0_has_2_92 (by decide) ?_
    exact c_iret' S hr hlk rfl hH hS z dX0_has_2_93
  replace z := ie c15 z
  by_cases c18 : a1 = 5
  · replace z := it c18 z
    refine lv_tableIn (off := 93) (tgt := 94) hx hb dX0_has_2_1 (by rw [c18]; decide) (by rw [c18]; decide) (by rw [c18]; rfl) (by decide) ?_
    refine c_aload_n hx hb dX0_has_2_94 rfl (lv_at hl 0 rfl) ?_
    replace z := ob z
    obtain ⟨v16, zv16, z⟩ := z
    obtain ⟨fsv16, yv16, zv16⟩ := gR_e zv16
    refine c_get S hG hH (ci := 0) (k := 9) rfl in_X0 (Nat.le_of_ble_eq_true rfl) q489 (fun _ y => y) yv16 zv16 dX0_has_2_95 ?_
    replace z := ob z
    obtain ⟨v17, zv17, z⟩ := z
    obtain ⟨fsv17, yv17, zv17⟩ := gI_e zv17
    refine c_getN S hG hH (ci := 5) (k := 0) rfl in_X5 (Nat.le_of_ble_eq_true rfl) q430 (fun _ y => y) yv17 zv17 dX0_has_2_98 ?_
    refine lv_bipush (v := (24 : Int32)) hx hb dX0_has_2_101 (by decide) ?_
    refine lv_irem hx hb dX0_has_2_103 (by decide) ?_
    exact c_iret' S hr hlk rfl hH hS z dX0_has_2_104
  replace z := ie c18 z
  by_cases c22 : a1 = 6
  · replace z := it c22 z
    refine lv_tableIn (off := 104) (tgt := 105) hx hb dX0_has_2_1 (by rw [c22]; decide) (by rw [c22]; decide) (by rw [c22]; rfl) (by decide) ?_
    refine c_aload_n hx hb dX0_has_2_105 rfl (lv_at hl 0 rfl) ?_
    replace z := ob z
    obtain ⟨v19, zv19, z⟩ := z
    obtain ⟨fsv19, yv19, zv19⟩ := gR_e zv19
    refine c_get S hG hH (ci := 0) (k := 9) rfl in_X0 (Nat.le_of_ble_eq_true rfl) q489 (fun _ y => y) yv19 zv19 dX0_has_2_106 ?_
    replace z := ob z
    obtain ⟨v20, zv20, z⟩ := z
    obtain ⟨fsv20, yv20, zv20⟩ := gI_e zv20
    refine c_getN S hG hH (ci := 5) (k := 1) rfl in_X5 (Nat.le_of_ble_eq_true rfl) q432 (fun _ y => y) yv20 zv20 dX0_has_2_109 ?_
    replace z := ob z
    obtain ⟨x21, zx21, z⟩ := z
    refine c_calli hH hS hRM (fun _ _ f1 f2 => va_runS (As := [.int v20]) (rest := []) S (metJ16_bitCount zx21) (va_cwS 1 hts (lw_S q1282 q1283 q205 q1284) rfl rfl rfl (by decide +kernel) ⟨(Nat.le_of_ble_eq_true rfl), (Nat.le_of_ble_eq_true rfl)⟩) (c_pre hG hH hS) rfl rfl hl.1 rfl (lv_room (Nat.le_of_ble_eq_true rfl)) dX0_has_2_112 ⟨f1, f2⟩) (fun H locs hH hS => ?_)
    exact c_iret' S hr hlk rfl hH hS z dX0_has_2_115
  replace z := ie c22 z
  by_cases c25 : a1 = 7
  · replace z := it c25 z
    refine lv_tableIn (off := 115) (tgt := 116) hx hb dX0_has_2_1 (by rw [c25]; decide) (by rw [c25]; decide) (by rw [c25]; rfl) (by decide) ?_
    refine c_aload_n hx hb dX0_has_2_116 rfl (lv_at hl 0 rfl) ?_
    replace z := ob z
    obtain ⟨b23, zb23, z⟩ := z
    obtain ⟨yb23, zb23⟩ := rcv_e zb23
    replace z := ob z
    obtain ⟨x24, zx24, z⟩ := z
    refine c_calli hH hS hRM (fun _ _ f1 f2 => va_runV (b := b23) (As := []) (rest := []) S (metX0_allSaw zx24) (cwV 0 hts (lw_V q1288 q1290 qs38 q167 q1291) rfl rfl rfl (by decide +kernel) ⟨(Nat.le_of_ble_eq_true rfl), (Nat.le_of_ble_eq_true rfl)⟩) (c_preV hG hH hS (ci := 0) rfl zb23) rfl rfl hl.1 (by rw [yb23]; rfl) (lv_room (Nat.le_of_ble_eq_true rfl)) dX0_has_2_117 ⟨f1, f2⟩) (fun H locs hH hS => ?_)
    exact c_iret' S hr hlk rfl hH hS z dX0_has_2_120
  replace z := ie c25 z
  by_cases c28 : a1 = 8
  · replace z := it c28 z
    refine lv_tableIn (off := 120) (tgt := 121) hx hb dX0_has_2_1 (by rw [c28]; decide) (by rw [c28]; decide) (by rw [c28]; rfl) (by decide) ?_
    refine c_aload_n hx hb dX0_has_2_121 rfl (lv_at hl 0 rfl) ?_
    replace z := ob z
    obtain ⟨v26, zv26, z⟩ := z
    obtain ⟨fsv26, yv26, zv26⟩ := gR_e zv26
    refine c_get S hG hH (ci := 0) (k := 9) rfl in_X0 (Nat.le_of_ble_eq_true rfl) q489 (fun _ y => y) yv26 zv26 dX0_has_2_122 ?_
    replace z := ob z
    obtain ⟨v27, zv27, z⟩ := z
    obtain ⟨fsv27, yv27, zv27⟩ := gI_e zv27
    refine c_getN S hG hH (ci := 5) (k := 2) rfl in_X5 (Nat.le_of_ble_eq_true rfl) q434 (fun _ y => y) yv27 zv27 dX0_has_2_125 ?_
    exact c_iret' S hr hlk rfl hH hS z dX0_has_2_128
  replace z := ie c28 z
  by_cases c30 : a1 = 9
  · replace z := it c30 z
    refine lv_tableIn (off := 128) (tgt := 129) hx hb dX0_has_2_1 (by rw [c30]; decide) (by rw [c30]; decide) (by rw [c30]; rfl) (by decide) ?_
    refine c_aload_n hx hb dX0_has_2_129 rfl (lv_at hl 0 rfl) ?_
    replace z := ob z
    obtain ⟨v29, zv29, z⟩ := z
    obtain ⟨fsv29, yv29, zv29⟩ := gI_e zv29
    refine c_get S hG hH (ci := 0) (k := 15) rfl in_X0 (Nat.le_of_ble_eq_true rfl) q495 (fun _ y => y) yv29 zv29 dX0_has_2_130 ?_
    exact c_iret' S hr hlk rfl hH hS z dX0_has_2_133
  replace z := ie c30 z
  by_cases c32 : a1 = 10
  · replace z := it c32 z
    refine lv_tableIn (off := 133) (tgt := 134) hx hb dX0_has_2_1 (by rw [c32]; decide) (by rw [c32]; decide) (by rw [c32]; rfl) (by decide) ?_
    refine c_aload_n hx hb dX0_has_2_134 rfl (lv_at hl 0 rfl) ?_
    replace z := ob z
    obtain ⟨v31, zv31, z⟩ := z
    obtain ⟨fsv31, yv31, zv31⟩ := gI_e zv31
    refine c_get S hG hH (ci := 0) (k := 17) rfl in_X0 (Nat.le_of_ble_eq_true rfl) q497 (fun _ y => y) yv31 zv31 dX0_has_2_135 ?_
    exact c_iret' S hr hlk rfl hH hS z dX0_has_2_138
  replace z := ie c32 z
  refine lv_tableOut (tgt := 139) hx hb dX0_has_2_1 (sw_out0_11 c3 c6 c9 c12 c15 c18 c22 c25 c28 c30 c32) (by decide) ?_
  refine lv_iconst (v := (-1 : Int32)) hx hb dX0_has_2_139 (by decide) ?_
  exact c_iret' S hr hlk rfl hH hS z dX0_has_2_140
/-! FourOnOne$Named.letter(I)I -/
def fX7_letter_c6 (K : KE) (h : HS) (a0 : Nat) (a1 : Int32) : Option (Int32) :=
  (gR K h (some a0) 6 0).bind fun v1 =>
  (rcv K h v1 20).bind fun b2 =>
  (fJ6_length K h b2).bind fun x3 =>
  if x3 ≤ a1 then
    some (0 : Int32)
  else
  (gR K h (some a0) 6 0).bind fun v5 =>
  (rcv K h v5 20).bind fun b6 =>
  (fJ6_charAt K h b6 a1).bind fun x7 =>
  some ((x7 - (97 : Int32)) + (1 : Int32))
set_option maxHeartbeats 4000000 in
theorem metX7_letter_c6 {l : Launch} {A : Nat → Prop} {D : va_G} {ac : Nat → ClassId} {K : KE} {h : HS} {a0 : Nat} {a1 : Int32} {x : Int32} (z : fX7_letter_c6 K h a0 a1 = some x) : Met l yX7_letter (ws_ yX7_letter cX7_letter 2 (some .int)) (rmC 5 85 K h) (cP A D ac K h [va_rf (some a0), .int a1]) (cQi A D ac K (h, x)) (K.2.2.1 - h.2.1) (K.2.2.2 - h.2.2) A := by
  refine c_entry (plainFor_of_name (by decide)) (Nat.le_of_ble_eq_true rfl) ?_
  intro p e s m below meth c S hr hlk hnm hG hRM hH hS ls hl
  replace hl : lv_has ls 2 [(0, va_rf (some a0)), (1, .int a1)] := hl
  replace hnm : meth.name = "letter" := hnm
  replace S : CallFix p m c cX7_letter 2 s _ lw_all RX7 := S
  obtain ⟨hx, hb, hml, hown, hts⟩ := id S
  unfold fX7_letter_c6 at z
  refine lv_iload_n hx hb dX7_letter_0 rfl (lv_at hl 1 rfl) ?_
  refine c_aload_n hx hb dX7_letter_1 rfl (lv_at hl 0 rfl) ?_
  replace z := ob z
  obtain ⟨v1, zv1, z⟩ := z
  obtain ⟨fsv1, yv1, zv1⟩ := gR_e zv1
  refine c_get S hG hH (ci := 6) (k := 0) rfl in_X7 (Nat.le_of_ble_eq_true rfl) q824 (fun _ y => y) yv1 zv1 dX7_letter_2 ?_
  replace z := ob z
  obtain ⟨b2, zb2, z⟩ := z
  obtain ⟨yb2, zb2⟩ := rcv_e zb2
  replace z := ob z
  obtain ⟨x3, zx3, z⟩ := z
  refine c_calli hH hS hRM (fun _ _ f1 f2 => va_runV (b := b2) (As := []) (rest := [.int a1]) S (metJ6_length zx3) (cwV 0 hts (lw_V q1307 q783 q784 q180 q785) rfl rfl rfl (by decide +kernel) ⟨(Nat.le_of_ble_eq_true rfl), (Nat.le_of_ble_eq_true rfl)⟩) (c_preV hG hH hS (ci := 20) rfl zb2) rfl rfl hl.1 (by rw [yb2]; rfl) (lv_room (Nat.le_of_ble_eq_true rfl)) dX7_letter_5 ⟨f1, f2⟩) (fun H locs hH hS => ?_)
  refine lv_icmp_ge (tgt := 27) hx hb dX7_letter_8 (by decide) (fun c4 => ?_) (fun c4 => ?_)
  · replace z := it c4 z
    refine lv_iconst (v := (0 : Int32)) hx hb dX7_letter_27 (by decide) ?_
    exact c_iret' S hr hlk rfl hH hS z dX7_letter_28
  replace z := ie c4 z
  refine c_aload_n hx hb dX7_letter_11 rfl (lv_at hl 0 rfl) ?_
  replace z := ob z
  obtain ⟨v5, zv5, z⟩ := z
  obtain ⟨fsv5, yv5, zv5⟩ := gR_e zv5
  refine c_get S hG hH (ci := 6) (k := 0) rfl in_X7 (Nat.le_of_ble_eq_true rfl) q824 (fun _ y => y) yv5 zv5 dX7_letter_12 ?_
  refine lv_iload_n hx hb dX7_letter_15 rfl (lv_at hl 1 rfl) ?_
  replace z := ob z
  obtain ⟨b6, zb6, z⟩ := z
  obtain ⟨yb6, zb6⟩ := rcv_e zb6
  replace z := ob z
  obtain ⟨x7, zx7, z⟩ := z
  refine c_calli hH hS hRM (fun _ _ f1 f2 => va_runV (b := b6) (As := [.int a1]) (rest := []) S (metJ6_charAt zx7) (cwV 1 hts (lw_V q1308 q1309 q1310 q180 q1311) rfl rfl rfl (by decide +kernel) ⟨(Nat.le_of_ble_eq_true rfl), (Nat.le_of_ble_eq_true rfl)⟩) (c_preV hG hH hS (ci := 20) rfl zb6) rfl rfl hl.1 (by rw [yb6]; rfl) (lv_room (Nat.le_of_ble_eq_true rfl)) dX7_letter_16 ⟨f1, f2⟩) (fun H locs hH hS => ?_)
  refine lv_bipush (v := (97 : Int32)) hx hb dX7_letter_19 (by decide) ?_
  refine lv_isub hx hb dX7_letter_21 ?_
  refine lv_iconst (v := (1 : Int32)) hx hb dX7_letter_22 (by decide) ?_
  refine lv_iadd hx hb dX7_letter_23 ?_
  refine lv_goto (tgt := 28) hx hb dX7_letter_24 (by decide) ?_
  exact c_iret' S hr hlk rfl hH hS z dX7_letter_28
/-! FourOnOne$Named.letter(I)I -/
def fX7_letter_c7 (K : KE) (h : HS) (a0 : Nat) (a1 : Int32) : Option (Int32) :=
  (gR K h (some a0) 7 0).bind fun v1 =>
  (rcv K h v1 20).bind fun b2 =>
  (fJ6_length K h b2).bind fun x3 =>
  if x3 ≤ a1 then
    some (0 : Int32)
  else
  (gR K h (some a0) 7 0).bind fun v5 =>
  (rcv K h v5 20).bind fun b6 =>
  (fJ6_charAt K h b6 a1).bind fun x7 =>
  some ((x7 - (97 : Int32)) + (1 : Int32))
set_option maxHeartbeats 4000000 in
theorem metX7_letter_c7 {l : Launch} {A : Nat → Prop} {D : va_G} {ac : Nat → ClassId} {K : KE} {h : HS} {a0 : Nat} {a1 : Int32} {x : Int32} (z : fX7_letter_c7 K h a0 a1 = some x) : Met l yX7_letter (ws_ yX7_letter cX7_letter 2 (some .int)) (rmC 5 85 K h) (cP A D ac K h [va_rf (some a0), .int a1]) (cQi A D ac K (h, x)) (K.2.2.1 - h.2.1) (K.2.2.2 - h.2.2) A := by
  refine c_entry (plainFor_of_name (by decide)) (Nat.le_of_ble_eq_true rfl) ?_
  intro p e s m below meth c S hr hlk hnm hG hRM hH hS ls hl
  replace hl : lv_has ls 2 [(0, va_rf (some a0)), (1, .int a1)] := hl
  replace hnm : meth.name = "letter" := hnm
  replace S : CallFix p m c cX7_letter 2 s _ lw_all RX7 := S
  obtain ⟨hx, hb, hml, hown, hts⟩ := id S
  unfold fX7_letter_c7 at z
  refine lv_iload_n hx hb dX7_letter_0 rfl (lv_at hl 1 rfl) ?_
  refine c_aload_n hx hb dX7_letter_1 rfl (lv_at hl 0 rfl) ?_
  replace z := ob z
  obtain ⟨v1, zv1, z⟩ := z
  obtain ⟨fsv1, yv1, zv1⟩ := gR_e zv1
  refine c_get S hG hH (ci := 7) (k := 0) rfl in_X8 (Nat.le_of_ble_eq_true rfl) q824 (fun _ y => y) yv1 zv1 dX7_letter_2 ?_
  replace z := ob z
  obtain ⟨b2, zb2, z⟩ := z
  obtain ⟨yb2, zb2⟩ := rcv_e zb2
  replace z := ob z
  obtain ⟨x3, zx3, z⟩ := z
  refine c_calli hH hS hRM (fun _ _ f1 f2 => va_runV (b := b2) (As := []) (rest := [.int a1]) S (metJ6_length zx3) (cwV 0 hts (lw_V q1307 q783 q784 q180 q785) rfl rfl rfl (by decide +kernel) ⟨(Nat.le_of_ble_eq_true rfl), (Nat.le_of_ble_eq_true rfl)⟩) (c_preV hG hH hS (ci := 20) rfl zb2) rfl rfl hl.1 (by rw [yb2]; rfl) (lv_room (Nat.le_of_ble_eq_true rfl)) dX7_letter_5 ⟨f1, f2⟩) (fun H locs hH hS => ?_)
  refine lv_icmp_ge (tgt := 27) hx hb dX7_letter_8 (by decide) (fun c4 => ?_) (fun c4 => ?_)
  · replace z := it c4 z
    refine lv_iconst (v := (0 : Int32)) hx hb dX7_letter_27 (by decide) ?_
    exact c_iret' S hr hlk rfl hH hS z dX7_letter_28
  replace z := ie c4 z
  refine c_aload_n hx hb dX7_letter_11 rfl (lv_at hl 0 rfl) ?_
  replace z := ob z
  obtain ⟨v5, zv5, z⟩ := z
  obtain ⟨fsv5, yv5, zv5⟩ := gR_e zv5
  refine c_get S hG hH (ci := 7) (k := 0) rfl in_X8 (Nat.le_of_ble_eq_true rfl) q824 (fun _ y => y) yv5 zv5 dX7_letter_12 ?_
  refine lv_iload_n hx hb dX7_letter_15 rfl (lv_at hl 1 rfl) ?_
  replace z := ob z
  obtain ⟨b6, zb6, z⟩ := z
  obtain ⟨yb6, zb6⟩ := rcv_e zb6
  replace z := ob z
  obtain ⟨x7, zx7, z⟩ := z
  refine c_calli hH hS hRM (fun _ _ f1 f2 => va_runV (b := b6) (As := [.int a1]) (rest := []) S (metJ6_charAt zx7) (cwV 1 hts (lw_V q1308 q1309 q1310 q180 q1311) rfl rfl rfl (by decide +kernel) ⟨(Nat.le_of_ble_eq_true rfl), (Nat.le_of_ble_eq_true rfl)⟩) (c_preV hG hH hS (ci := 20) rfl zb6) rfl rfl hl.1 (by rw [yb6]; rfl) (lv_room (Nat.le_of_ble_eq_true rfl)) dX7_letter_16 ⟨f1, f2⟩) (fun H locs hH hS => ?_)
  refine lv_bipush (v := (97 : Int32)) hx hb dX7_letter_19 (by decide) ?_
  refine lv_isub hx hb dX7_letter_21 ?_
  refine lv_iconst (v := (1 : Int32)) hx hb dX7_letter_22 (by decide) ?_
  refine lv_iadd hx hb dX7_letter_23 ?_
  refine lv_goto (tgt := 28) hx hb dX7_letter_24 (by decide) ?_
  exact c_iret' S hr hlk rfl hH hS z dX7_letter_28
/-! FourOnOne$Named.letter(I)I -/
def fX7_letter_c8 (K : KE) (h : HS) (a0 : Nat) (a1 : Int32) : Option (Int32) :=
  (gR K h (some a0) 8 0).bind fun v1 =>
  (rcv K h v1 20).bind fun b2 =>
  (fJ6_length K h b2).bind fun x3 =>
  if x3 ≤ a1 then
    some (0 : Int32)
  else
  (gR K h (some a0) 8 0).bind fun v5 =>
  (rcv K h v5 20).bind fun b6 =>
  (fJ6_charAt K h b6 a1).bind fun x7 =>
  some ((x7 - (97 : Int32)) + (1 : Int32))
set_option maxHeartbeats 4000000 in
theorem metX7_letter_c8 {l : Launch} {A : Nat → Prop} {D : va_G} {ac : Nat → ClassId} {K : KE} {h : HS} {a0 : Nat} {a1 : Int32} {x : Int32} (z : fX7_letter_c8 K h a0 a1 = some x) : Met l yX7_letter (ws_ yX7_letter cX7_letter 2 (some .int)) (rmC 5 85 K h) (cP A D ac K h [va_rf (some a0), .int a1]) (cQi A D ac K (h, x)) (K.2.2.1 - h.2.1) (K.2.2.2 - h.2.2) A := by
  refine c_entry (plainFor_of_name (by decide)) (Nat.le_of_ble_eq_true rfl) ?_
  intro p e s m below meth c S hr hlk hnm hG hRM hH hS ls hl
  replace hl : lv_has ls 2 [(0, va_rf (some a0)), (1, .int a1)] := hl
  replace hnm : meth.name = "letter" := hnm
  replace S : CallFix p m c cX7_letter 2 s _ lw_all RX7 := S
  obtain ⟨hx, hb, hml, hown, hts⟩ := id S
  unfold fX7_letter_c8 at z
  refine lv_iload_n hx hb dX7_letter_0 rfl (lv_at hl 1 rfl) ?_
  refine c_aload_n hx hb dX7_letter_1 rfl (lv_at hl 0 rfl) ?_
  replace z := ob z
  obtain ⟨v1, zv1, z⟩ := z
  obtain ⟨fsv1, yv1, zv1⟩ := gR_e zv1
  refine c_get S hG hH (ci := 8) (k := 0) rfl in_X9 (Nat.le_of_ble_eq_true rfl) q824 (fun _ y => y) yv1 zv1 dX7_letter_2 ?_
  replace z := ob z
  obtain ⟨b2, zb2, z⟩ := z
  obtain ⟨yb2, zb2⟩ := rcv_e zb2
  replace z := ob z
  obtain ⟨x3, zx3, z⟩ := z
  refine c_calli hH hS hRM (fun _ _ f1 f2 => va_runV (b := b2) (As := []) (rest := [.int a1]) S (metJ6_length zx3) (cwV 0 hts (lw_V q1307 q783 q784 q180 q785) rfl rfl rfl (by decide +kernel) ⟨(Nat.le_of_ble_eq_true rfl), (Nat.le_of_ble_eq_true rfl)⟩) (c_preV hG hH hS (ci := 20) rfl zb2) rfl rfl hl.1 (by rw [yb2]; rfl) (lv_room (Nat.le_of_ble_eq_true rfl)) dX7_letter_5 ⟨f1, f2⟩) (fun H locs hH hS => ?_)
  refine lv_icmp_ge (tgt := 27) hx hb dX7_letter_8 (by decide) (fun c4 => ?_) (fun c4 => ?_)
  · replace z := it c4 z
    refine lv_iconst (v := (0 : Int32)) hx hb dX7_letter_27 (by decide) ?_
    exact c_iret' S hr hlk rfl hH hS z dX7_letter_28
  replace z := ie c4 z
  refine c_aload_n hx hb dX7_letter_11 rfl (lv_at hl 0 rfl) ?_
  replace z := ob z
  obtain ⟨v5, zv5, z⟩ := z
  obtain ⟨fsv5, yv5, zv5⟩ := gR_e zv5
  refine c_get S hG hH (ci := 8) (k := 0) rfl in_X9 (Nat.le_of_ble_eq_true rfl) q824 (fun _ y => y) yv5 zv5 dX7_letter_12 ?_
  refine lv_iload_n hx hb dX7_letter_15 rfl (lv_at hl 1 rfl) ?_
  replace z := ob z
  obtain ⟨b6, zb6, z⟩ := z
  obtain ⟨yb6, zb6⟩ := rcv_e zb6
  replace z := ob z
  obtain ⟨x7, zx7, z⟩ := z
  refine c_calli hH hS hRM (fun _ _ f1 f2 => va_runV (b := b6) (As := [.int a1]) (rest := []) S (metJ6_charAt zx7) (cwV 1 hts (lw_V q1308 q1309 q1310 q180 q1311) rfl rfl rfl (by decide +kernel) ⟨(Nat.le_of_ble_eq_true rfl), (Nat.le_of_ble_eq_true rfl)⟩) (c_preV hG hH hS (ci := 20) rfl zb6) rfl rfl hl.1 (by rw [yb6]; rfl) (lv_room (Nat.le_of_ble_eq_true rfl)) dX7_letter_16 ⟨f1, f2⟩) (fun H locs hH hS => ?_)
  refine lv_bipush (v := (97 : Int32)) hx hb dX7_letter_19 (by decide) ?_
  refine lv_isub hx hb dX7_letter_21 ?_
  refine lv_iconst (v := (1 : Int32)) hx hb dX7_letter_22 (by decide) ?_
  refine lv_iadd hx hb dX7_letter_23 ?_
  refine lv_goto (tgt := 28) hx hb dX7_letter_24 (by decide) ?_
  exact c_iret' S hr hlk rfl hH hS z dX7_letter_28
/-! FourOnOne.letter(III)I -/
def fX0_letter_60 (K : KE) (h : HS) (a0 : Nat) (a2 : Int32) (a3 : Int32) (t0 : Option Nat) : Option (Int32) :=
  (rcv K h t0 19).bind fun b1 =>
  (fJ2_size K h b1).bind fun x2 =>
  if x2 ≤ a2 then
    some (-1 : Int32)
  else
  (rcv K h t0 19).bind fun b4 =>
  (fJ2_get K h b4 a2).bind fun x5 =>
  (ckL K h x5 [6, 7, 8]).bind fun u6 =>
  (clsOf K h x5).bind fun b7 =>
  (if b7.2 = 6 then fX7_letter_c6 K h b7.1 a3 else if b7.2 = 7 then fX7_letter_c7 K h b7.1 a3 else if b7.2 = 8 then fX7_letter_c8 K h b7.1 a3 else none).bind fun x8 =>
  some x8
def fX0_letter (K : KE) (h : HS) (a0 : Nat) (a1 : Int32) (a2 : Int32) (a3 : Int32) : Option (Int32) :=
  (fX0_is K h a3 (0 : Int32) (5 : Int32)).bind fun x1 =>
  if x1 = 0 then
    some (-1 : Int32)
  else
  (fX0_is K h a1 (0 : Int32) (2 : Int32)).bind fun x3 =>
  if x3 = 0 then
    some (-1 : Int32)
  else
  if 0 ≤ a2 then
    if a1 = 0 then
      (gR K h (some a0) 0 0).bind fun v12 =>
      (gR K h v12 1 6).bind fun v13 =>
      fX0_letter_60 K h a0 a2 a3 v13
    else
    if a1 = (1 : Int32) then
      (gR K h (some a0) 0 0).bind fun v10 =>
      (gR K h v10 1 7).bind fun v11 =>
      fX0_letter_60 K h a0 a2 a3 v11
    else
    (gR K h (some a0) 0 0).bind fun v8 =>
    (gR K h v8 1 8).bind fun v9 =>
    fX0_letter_60 K h a0 a2 a3 v9
  else
  some (-1 : Int32)
set_option maxHeartbeats 4000000 in
theorem wX0_letter_60 {p : Program} {l : Launch} {e : Env} {s : State} {m : MethodId} {args : Array Value} {below : List Frame} {meth : Method} {c : Code} {A : Nat → Prop} {D : va_G} {ac : Nat → ClassId} {K : KE} {h : HS} {a0 : Nat} (S : CallFix p m c cX0_letter 5 s args lw_all RX0) (hr : meth.sig.returnType = some .int) (hlk : meth.locks = false) (hnm : meth.name = "letter") (hG : GK A D ac K s) (hRM : RM K s (rmC 6 106 K h)) {x : Int32} : ∀ (a2 : Int32) (a3 : Int32) (t0 : Option Nat), fX0_letter_60 K h a0 a2 a3 t0 = some x → cGo p l e (rmC 6 106 K h) s m args below meth c A D ac K (MQ below (cQi A D ac K (h, x)) args s (K.2.2.1 - h.2.1) (K.2.2.2 - h.2.2) A) 5 60 [(0, va_rf (some a0)), (2, .int a2), (3, .int a3)] [va_rf t0] h := by
  obtain ⟨hx, hb, hml, hown, hts⟩ := id S
  intro a2 a3 t0 z H locs hH hS ls hl
  unfold fX0_letter_60 at z
  refine c_astore (lv' := [(4, va_rf t0), (0, va_rf (some a0)), (2, .int a2), (3, .int a3)]) hx hb dX0_letter_60 hl (by decide) rfl (fun ls hl => ?_)
  refine lv_iload_n hx hb dX0_letter_62 rfl (lv_at hl 2 rfl) ?_
  refine c_aload hx hb dX0_letter_63 (lv_at hl 0 rfl) ?_
  replace z := ob z
  obtain ⟨b1, zb1, z⟩ := z
  obtain ⟨yb1, zb1⟩ := rcv_e zb1
  replace z := ob z
  obtain ⟨x2, zx2, z⟩ := z
  refine c_callFi hH hS hRM (fun _ _ f1 f2 => va_runF (b := b1) (As := []) (rest := [.int a2]) (hG.1.1 19 _ rfl).2 S (metJ2_size zx2) (va_cwF 0 hts (lw_app (lw_l4 q1273 q761 q763 q171) (lw_meth q765)) rfl rfl rfl hG.2.2.2.2.1.1 (by decide +kernel) ⟨(Nat.le_of_ble_eq_true rfl), (Nat.le_of_ble_eq_true rfl)⟩) (c_preV hG hH hS (ci := 19) rfl zb1) rfl rfl hl.1 (by rw [yb1]; rfl) (lv_room (Nat.le_of_ble_eq_true rfl)) dX0_letter_65 ⟨f1, f2⟩) (fun H locs hH hS => ?_)
  refine lv_icmp_ge (tgt := 91) hx hb dX0_letter_70 (by decide) (fun c3 => ?_) (fun c3 => ?_)
  · replace z := it c3 z
    refine lv_iconst (v := (-1 : Int32)) hx hb dX0_letter_91 (by decide) ?_
    exact c_iret' S hr hlk rfl hH hS z dX0_letter_92
  replace z := ie c3 z
  refine c_aload hx hb dX0_letter_73 (lv_at hl 0 rfl) ?_
  refine lv_iload_n hx hb dX0_letter_75 rfl (lv_at hl 2 rfl) ?_
  replace z := ob z
  obtain ⟨b4, zb4, z⟩ := z
  obtain ⟨yb4, zb4⟩ := rcv_e zb4
  replace z := ob z
  obtain ⟨x5, zx5, z⟩ := z
  refine c_callFq hH hS hRM (fun _ _ f1 f2 => va_runF (b := b4) (As := [.int a2]) (rest := []) (hG.1.1 19 _ rfl).2 S (metJ2_get zx5) (va_cwF 1 hts (lw_app (lw_l4 q1298 q803 q805 q171) (lw_meth q807)) rfl rfl rfl hG.2.2.2.2.1.2.1 (by decide +kernel) ⟨(Nat.le_of_ble_eq_true rfl), (Nat.le_of_ble_eq_true rfl)⟩) (c_preV hG hH hS (ci := 19) rfl zb4) rfl rfl hl.1 (by rw [yb4]; rfl) (lv_room (Nat.le_of_ble_eq_true rfl)) dX0_letter_76 ⟨f1, f2⟩) (fun H locs hH hS => ?_)
  replace z := ob z
  obtain ⟨u6, zu6, z⟩ := z
  refine c_castL S hG hH q1299 [6, 7, 8] cast_Named zu6 dX0_letter_81 ?_
  refine lv_iload_n hx hb dX0_letter_84 rfl (lv_at hl 3 rfl) ?_
  replace z := ob z
  obtain ⟨b7, zb7, z⟩ := z
  obtain ⟨yb7, zb7⟩ := clsOf_e zb7
  replace z := ob z
  obtain ⟨x8, zx8, z⟩ := z
  refine c_calli (x := (h, x8)) (rest := []) (a := (Value.ref b7.1 :: [.int a3]).toArray) hH hS hRM (fun _ _ f1 f2 => ?_) (fun H locs hH hS => ?_)
  · by_cases c9 : b7.2 = 6
    · replace zx8 := it c9 zx8
      rw [c9] at zb7
      exact va_runV (b := b7.1) (As := [.int a3]) (rest := []) S (metX7_letter_c6 zx8) (cwV 1 hts (lw_V q1300 q1301 q1302 q185 q1306) rfl rfl rfl (by decide +kernel) ⟨(Nat.le_of_ble_eq_true rfl), (Nat.le_of_ble_eq_true rfl)⟩) (c_preV hG hH hS (ci := 6) rfl zb7) rfl rfl hl.1 (by rw [yb7]; rfl) (lv_room (Nat.le_of_ble_eq_true rfl)) dX0_letter_85 ⟨f1, f2⟩
    replace zx8 := ie c9 zx8
    by_cases c10 : b7.2 = 7
    · replace zx8 := it c10 zx8
      rw [c10] at zb7
      exact va_runU (b := b7.1) (As := [.int a3]) (rest := []) S (metX7_letter_c7 zx8) (va_cwU 1 hts (lw_app (lw_l5 q1300 q1303 q1304 q1301 q185) (lw_meth q1306)) rfl rfl rfl rfl (by decide +kernel) ⟨(Nat.le_of_ble_eq_true rfl), (Nat.le_of_ble_eq_true rfl)⟩) (c_preV hG hH hS (ci := 7) rfl zb7) rfl rfl hl.1 (by rw [yb7]; rfl) (lv_room (Nat.le_of_ble_eq_true rfl)) dX0_letter_85 ⟨f1, f2⟩
    replace zx8 := ie c10 zx8
    by_cases c11 : b7.2 = 8
    · replace zx8 := it c11 zx8
      rw [c11] at zb7
      exact va_runU (b := b7.1) (As := [.int a3]) (rest := []) S (metX7_letter_c8 zx8) (va_cwU 1 hts (lw_app (lw_l5 q1300 q1303 q1305 q1301 q185) (lw_meth q1306)) rfl rfl rfl rfl (by decide +kernel) ⟨(Nat.le_of_ble_eq_true rfl), (Nat.le_of_ble_eq_true rfl)⟩) (c_preV hG hH hS (ci := 8) rfl zb7) rfl rfl hl.1 (by rw [yb7]; rfl) (lv_room (Nat.le_of_ble_eq_true rfl)) dX0_letter_85 ⟨f1, f2⟩
    replace zx8 := ie c11 zx8
    cases zx8
  refine lv_goto (tgt := 92) hx hb dX0_letter_88 (by decide) ?_
  exact c_iret' S hr hlk rfl hH hS z dX0_letter_92
set_option maxHeartbeats 4000000 in
theorem metX0_letter {l : Launch} {A : Nat → Prop} {D : va_G} {ac : Nat → ClassId} {K : KE} {h : HS} {a0 : Nat} {a1 : Int32} {a2 : Int32} {a3 : Int32} {x : Int32} (z : fX0_letter K h a0 a1 a2 a3 = some x) : Met l yX0_letter (ws_ yX0_letter cX0_letter 5 (some .int)) (rmC 6 106 K h) (cP A D ac K h [va_rf (some a0), .int a1, .int a2, .int a3]) (cQi A D ac K (h, x)) (K.2.2.1 - h.2.1) (K.2.2.2 - h.2.2) A := by
  refine c_entry (plainFor_of_name (by decide)) (Nat.le_of_ble_eq_true rfl) ?_
  intro p e s m below meth c S hr hlk hnm hG hRM hH hS ls hl
  replace hl : lv_has ls 5 [(0, va_rf (some a0)), (1, .int a1), (2, .int a2), (3, .int a3)] := hl
  replace hnm : meth.name = "letter" := hnm
  replace S : CallFix p m c cX0_letter 5 s _ lw_all RX0 := S
  obtain ⟨hx, hb, hml, hown, hts⟩ := id S
  unfold fX0_letter at z
  refine lv_iload_n hx hb dX0_letter_0 rfl (lv_at hl 3 rfl) ?_
  refine lv_iconst (v := (0 : Int32)) hx hb dX0_letter_1 (by decide) ?_
  refine lv_iconst (v := (5 : Int32)) hx hb dX0_letter_2 (by decide) ?_
  replace z := ob z
  obtain ⟨x1, zx1, z⟩ := z
  refine c_calli hH hS hRM (fun _ _ f1 f2 => va_runS (As := [.int a3, .int (0 : Int32), .int (5 : Int32)]) (rest := []) S (metX0_is zx1) (va_cwS 3 hts (lw_S q1296 q924 q167 q925) rfl rfl rfl (by decide +kernel) ⟨(Nat.le_of_ble_eq_true rfl), (Nat.le_of_ble_eq_true rfl)⟩) (c_pre hG hH hS) rfl rfl hl.1 rfl (lv_room (Nat.le_of_ble_eq_true rfl)) dX0_letter_3 ⟨f1, f2⟩) (fun H locs hH hS => ?_)
  refine lv_if_eq (tgt := 22) hx hb dX0_letter_6 (by decide) (fun c2 => ?_) (fun c2 => ?_)
  · replace z := it c2 z
    refine lv_iconst (v := (-1 : Int32)) hx hb dX0_letter_22 (by decide) ?_
    exact c_iret' S hr hlk rfl hH hS z dX0_letter_23
  replace z := ie c2 z
  refine lv_iload_n hx hb dX0_letter_9 rfl (lv_at hl 1 rfl) ?_
  refine lv_iconst (v := (0 : Int32)) hx hb dX0_letter_10 (by decide) ?_
  refine lv_iconst (v := (2 : Int32)) hx hb dX0_letter_11 (by decide) ?_
  replace z := ob z
  obtain ⟨x3, zx3, z⟩ := z
  refine c_calli hH hS hRM (fun _ _ f1 f2 => va_runS (As := [.int a1, .int (0 : Int32), .int (2 : Int32)]) (rest := []) S (metX0_is zx3) (va_cwS 3 hts (lw_S q1296 q924 q167 q925) rfl rfl rfl (by decide +kernel) ⟨(Nat.le_of_ble_eq_true rfl), (Nat.le_of_ble_eq_true rfl)⟩) (c_pre hG hH hS) rfl rfl hl.1 rfl (lv_room (Nat.le_of_ble_eq_true rfl)) dX0_letter_12 ⟨f1, f2⟩) (fun H locs hH hS => ?_)
  refine lv_if_eq (tgt := 22) hx hb dX0_letter_15 (by decide) (fun c4 => ?_) (fun c4 => ?_)
  · replace z := it c4 z
    refine lv_iconst (v := (-1 : Int32)) hx hb dX0_letter_22 (by decide) ?_
    exact c_iret' S hr hlk rfl hH hS z dX0_letter_23
  replace z := ie c4 z
  refine lv_iload_n hx hb dX0_letter_18 rfl (lv_at hl 2 rfl) ?_
  refine lv_if_ge (tgt := 24) hx hb dX0_letter_19 (by decide) (fun c5 => ?_) (fun c5 => ?_)
  rotate_left 1
  · replace z := ie c5 z
    refine lv_iconst (v := (-1 : Int32)) hx hb dX0_letter_22 (by decide) ?_
    exact c_iret' S hr hlk rfl hH hS z dX0_letter_23
  replace z := it c5 z
  refine lv_iload_n hx hb dX0_letter_24 rfl (lv_at hl 1 rfl) ?_
  refine lv_if_ne (tgt := 38) hx hb dX0_letter_25 (by decide) (fun c6 => ?_) (fun c6 => ?_)
  rotate_left 1
  · replace z := it c6 z
    refine c_aload_n hx hb dX0_letter_28 rfl (lv_at hl 0 rfl) ?_
    replace z := ob z
    obtain ⟨v12, zv12, z⟩ := z
    obtain ⟨fsv12, yv12, zv12⟩ := gR_e zv12
    refine c_get S hG hH (ci := 0) (k := 0) rfl in_X0 (Nat.le_of_ble_eq_true rfl) q478 (fun _ y => y) yv12 zv12 dX0_letter_29 ?_
    replace z := ob z
    obtain ⟨v13, zv13, z⟩ := z
    obtain ⟨fsv13, yv13, zv13⟩ := gR_e zv13
    refine c_getN S hG hH (ci := 1) (k := 6) rfl in_X1 (Nat.le_of_ble_eq_true rfl) q264 (fun _ y => y) yv13 zv13 dX0_letter_32 ?_
    refine lv_goto (tgt := 60) hx hb dX0_letter_35 (by decide) ?_
    exact wX0_letter_60 S hr hlk hnm hG hRM a2 a3 v13 z _ _ hH hS _ (lv_sub hl [0, 2, 3] rfl)
  replace z := ie c6 z
  refine lv_iload_n hx hb dX0_letter_38 rfl (lv_at hl 1 rfl) ?_
  refine lv_iconst (v := (1 : Int32)) hx hb dX0_letter_39 (by decide) ?_
  refine lv_icmp_ne (tgt := 53) hx hb dX0_letter_40 (by decide) (fun c7 => ?_) (fun c7 => ?_)
  · replace z := ie c7 z
    refine c_aload_n hx hb dX0_letter_53 rfl (lv_at hl 0 rfl) ?_
    replace z := ob z
    obtain ⟨v8, zv8, z⟩ := z
    obtain ⟨fsv8, yv8, zv8⟩ := gR_e zv8
    refine c_get S hG hH (ci := 0) (k := 0) rfl in_X0 (Nat.le_of_ble_eq_true rfl) q478 (fun _ y => y) yv8 zv8 dX0_letter_54 ?_
    replace z := ob z
    obtain ⟨v9, zv9, z⟩ := z
    obtain ⟨fsv9, yv9, zv9⟩ := gR_e zv9
    refine c_getN S hG hH (ci := 1) (k := 8) rfl in_X1 (Nat.le_of_ble_eq_true rfl) q270 (fun _ y => y) yv9 zv9 dX0_letter_57 ?_
    exact wX0_letter_60 S hr hlk hnm hG hRM a2 a3 v9 z _ _ hH hS _ (lv_sub hl [0, 2, 3] rfl)
  replace z := it c7 z
  refine c_aload_n hx hb dX0_letter_43 rfl (lv_at hl 0 rfl) ?_
  replace z := ob z
  obtain ⟨v10, zv10, z⟩ := z
  obtain ⟨fsv10, yv10, zv10⟩ := gR_e zv10
  refine c_get S hG hH (ci := 0) (k := 0) rfl in_X0 (Nat.le_of_ble_eq_true rfl) q478 (fun _ y => y) yv10 zv10 dX0_letter_44 ?_
  replace z := ob z
  obtain ⟨v11, zv11, z⟩ := z
  obtain ⟨fsv11, yv11, zv11⟩ := gR_e zv11
  refine c_getN S hG hH (ci := 1) (k := 7) rfl in_X1 (Nat.le_of_ble_eq_true rfl) q267 (fun _ y => y) yv11 zv11 dX0_letter_47 ?_
  refine lv_goto (tgt := 60) hx hb dX0_letter_50 (by decide) ?_
  exact wX0_letter_60 S hr hlk hnm hG hRM a2 a3 v11 z _ _ hH hS _ (lv_sub hl [0, 2, 3] rfl)
/-! FourOnOne.filmOf(I)LFourOnOne$Film; -/
def fX0_filmOf (K : KE) (h : HS) (a0 : Nat) (a1 : Int32) : Option (Option Nat) :=
  (gR K h (some a0) 0 0).bind fun v1 =>
  (gR K h v1 1 7).bind fun v2 =>
  (rcv K h v2 19).bind fun b3 =>
  (fJ2_get K h b3 a1).bind fun x4 =>
  (ckL K h x4 [7]).bind fun u5 =>
  some x4
set_option maxHeartbeats 4000000 in
theorem metX0_filmOf {l : Launch} {A : Nat → Prop} {D : va_G} {ac : Nat → ClassId} {K : KE} {h : HS} {a0 : Nat} {a1 : Int32} {x : Option Nat} (z : fX0_filmOf K h a0 a1 = some x) : Met l yX0_filmOf (ws_ yX0_filmOf cX0_filmOf 2 (some (.object "FourOnOne$Film"))) (rmC 4 64 K h) (cP A D ac K h [va_rf (some a0), .int a1]) (cQq A D ac K (h, x)) (K.2.2.1 - h.2.1) (K.2.2.2 - h.2.2) A := by
  refine c_entry (plainFor_of_name (by decide)) (Nat.le_of_ble_eq_true rfl) ?_
  intro p e s m below meth c S hr hlk hnm hG hRM hH hS ls hl
  replace hl : lv_has ls 2 [(0, va_rf (some a0)), (1, .int a1)] := hl
  replace hnm : meth.name = "filmOf" := hnm
  replace S : CallFix p m c cX0_filmOf 2 s _ lw_all RX0 := S
  obtain ⟨hx, hb, hml, hown, hts⟩ := id S
  unfold fX0_filmOf at z
  refine c_aload_n hx hb dX0_filmOf_0 rfl (lv_at hl 0 rfl) ?_
  replace z := ob z
  obtain ⟨v1, zv1, z⟩ := z
  obtain ⟨fsv1, yv1, zv1⟩ := gR_e zv1
  refine c_get S hG hH (ci := 0) (k := 0) rfl in_X0 (Nat.le_of_ble_eq_true rfl) q478 (fun _ y => y) yv1 zv1 dX0_filmOf_1 ?_
  replace z := ob z
  obtain ⟨v2, zv2, z⟩ := z
  obtain ⟨fsv2, yv2, zv2⟩ := gR_e zv2
  refine c_getN S hG hH (ci := 1) (k := 7) rfl in_X1 (Nat.le_of_ble_eq_true rfl) q267 (fun _ y => y) yv2 zv2 dX0_filmOf_4 ?_
  refine lv_iload_n hx hb dX0_filmOf_7 rfl (lv_at hl 1 rfl) ?_
  replace z := ob z
  obtain ⟨b3, zb3, z⟩ := z
  obtain ⟨yb3, zb3⟩ := rcv_e zb3
  replace z := ob z
  obtain ⟨x4, zx4, z⟩ := z
  refine c_callFq hH hS hRM (fun _ _ f1 f2 => va_runF (b := b3) (As := [.int a1]) (rest := []) (hG.1.1 19 _ rfl).2 S (metJ2_get zx4) (va_cwF 1 hts (lw_app (lw_l4 q1298 q803 q805 q171) (lw_meth q807)) rfl rfl rfl hG.2.2.2.2.1.2.1 (by decide +kernel) ⟨(Nat.le_of_ble_eq_true rfl), (Nat.le_of_ble_eq_true rfl)⟩) (c_preV hG hH hS (ci := 19) rfl zb3) rfl rfl hl.1 (by rw [yb3]; rfl) (lv_room (Nat.le_of_ble_eq_true rfl)) dX0_filmOf_8 ⟨f1, f2⟩) (fun H locs hH hS => ?_)
  replace z := ob z
  obtain ⟨u5, zu5, z⟩ := z
  refine c_castL S hG hH q1331 [7] cast_Film zu5 dX0_filmOf_13 ?_
  exact c_aret' S hr (Or.inl ⟨_, rfl⟩) hlk hH hS z dX0_filmOf_16
/-! FourOnOne.isFilm(I)Z -/
def fX0_isFilm (K : KE) (h : HS) (a0 : Nat) (a1 : Int32) : Option (Int32) :=
  if a1 < 0 then
    some (0 : Int32)
  else
  (rcv K h (some a0) 0).bind fun b2 =>
  (fX0_films K h b2).bind fun x3 =>
  if x3 ≤ a1 then
    some (0 : Int32)
  else
  some (1 : Int32)
set_option maxHeartbeats 4000000 in
theorem metX0_isFilm {l : Launch} {A : Nat → Prop} {D : va_G} {ac : Nat → ClassId} {K : KE} {h : HS} {a0 : Nat} {a1 : Int32} {x : Int32} (z : fX0_isFilm K h a0 a1 = some x) : Met l yX0_isFilm (ws_ yX0_isFilm cX0_isFilm 2 (some .boolean)) (rmC 3 40 K h) (cP A D ac K h [va_rf (some a0), .int a1]) (cQi A D ac K (h, x)) (K.2.2.1 - h.2.1) (K.2.2.2 - h.2.2) A := by
  refine c_entry (plainFor_of_name (by decide)) (Nat.le_of_ble_eq_true rfl) ?_
  intro p e s m below meth c S hr hlk hnm hG hRM hH hS ls hl
  replace hl : lv_has ls 2 [(0, va_rf (some a0)), (1, .int a1)] := hl
  replace hnm : meth.name = "isFilm" := hnm
  replace S : CallFix p m c cX0_isFilm 2 s _ lw_all RX0 := S
  obtain ⟨hx, hb, hml, hown, hts⟩ := id S
  unfold fX0_isFilm at z
  refine lv_iload_n hx hb dX0_isFilm_0 rfl (lv_at hl 1 rfl) ?_
  refine lv_if_lt (tgt := 16) hx hb dX0_isFilm_1 (by decide) (fun c1 => ?_) (fun c1 => ?_)
  · replace z := it c1 z
    refine lv_iconst (v := (0 : Int32)) hx hb dX0_isFilm_16 (by decide) ?_
    exact c_iret' S hr hlk rfl hH hS z dX0_isFilm_17
  replace z := ie c1 z
  refine lv_iload_n hx hb dX0_isFilm_4 rfl (lv_at hl 1 rfl) ?_
  refine c_aload_n hx hb dX0_isFilm_5 rfl (lv_at hl 0 rfl) ?_
  replace z := ob z
  obtain ⟨b2, zb2, z⟩ := z
  obtain ⟨yb2, zb2⟩ := rcv_e zb2
  replace z := ob z
  obtain ⟨x3, zx3, z⟩ := z
  refine c_calli hH hS hRM (fun _ _ f1 f2 => va_runV (b := b2) (As := []) (rest := [.int a1]) S (metX0_films zx3) (cwV 0 hts (lw_V q1274 q1276 qs36 q167 q1277) rfl rfl rfl (by decide +kernel) ⟨(Nat.le_of_ble_eq_true rfl), (Nat.le_of_ble_eq_true rfl)⟩) (c_preV hG hH hS (ci := 0) rfl zb2) rfl rfl hl.1 (by rw [yb2]; rfl) (lv_room (Nat.le_of_ble_eq_true rfl)) dX0_isFilm_6 ⟨f1, f2⟩) (fun H locs hH hS => ?_)
  refine lv_icmp_ge (tgt := 16) hx hb dX0_isFilm_9 (by decide) (fun c4 => ?_) (fun c4 => ?_)
  · replace z := it c4 z
    refine lv_iconst (v := (0 : Int32)) hx hb dX0_isFilm_16 (by decide) ?_
    exact c_iret' S hr hlk rfl hH hS z dX0_isFilm_17
  replace z := ie c4 z
  refine lv_iconst (v := (1 : Int32)) hx hb dX0_isFilm_12 (by decide) ?_
  refine lv_goto (tgt := 17) hx hb dX0_isFilm_13 (by decide) ?_
  exact c_iret' S hr hlk rfl hH hS z dX0_isFilm_17
/-! FourOnOne.isKind(I)Z -/
def fX0_isKind (K : KE) (h : HS) (a0 : Nat) (a1 : Int32) : Option (Int32) :=
  if a1 < 0 then
    some (0 : Int32)
  else
  (rcv K h (some a0) 0).bind fun b2 =>
  (fX0_kinds K h b2).bind fun x3 =>
  if x3 ≤ a1 then
    some (0 : Int32)
  else
  some (1 : Int32)
set_option maxHeartbeats 4000000 in
theorem metX0_isKind {l : Launch} {A : Nat → Prop} {D : va_G} {ac : Nat → ClassId} {K : KE} {h : HS} {a0 : Nat} {a1 : Int32} {x : Int32} (z : fX0_isKind K h a0 a1 = some x) : Met l yX0_isKind (ws_ yX0_isKind cX0_isKind 2 (some .boolean)) (rmC 3 40 K h) (cP A D ac K h [va_rf (some a0), .int a1]) (cQi A D ac K (h, x)) (K.2.2.1 - h.2.1) (K.2.2.2 - h.2.2) A := by
  refine c_entry (plainFor_of_name (by decide)) (Nat.le_of_ble_eq_true rfl) ?_
  intro p e s m below meth c S hr hlk hnm hG hRM hH hS ls hl
  replace hl : lv_has ls 2 [(0, va_rf (some a0)), (1, .int a1)] := hl
  replace hnm : meth.name = "isKind" := hnm
  replace S : CallFix p m c cX0_isKind 2 s _ lw_all RX0 := S
  obtain ⟨hx, hb, hml, hown, hts⟩ := id S
  unfold fX0_isKind at z
  refine lv_iload_n hx hb dX0_isKind_0 rfl (lv_at hl 1 rfl) ?_
  refine lv_if_lt (tgt := 16) hx hb dX0_isKind_1 (by decide) (fun c1 => ?_) (fun c1 => ?_)
  · replace z := it c1 z
    refine lv_iconst (v := (0 : Int32)) hx hb dX0_isKind_16 (by decide) ?_
    exact c_iret' S hr hlk rfl hH hS z dX0_isKind_17
  replace z := ie c1 z
  refine lv_iload_n hx hb dX0_isKind_4 rfl (lv_at hl 1 rfl) ?_
  refine c_aload_n hx hb dX0_isKind_5 rfl (lv_at hl 0 rfl) ?_
  replace z := ob z
  obtain ⟨b2, zb2, z⟩ := z
  obtain ⟨yb2, zb2⟩ := rcv_e zb2
  replace z := ob z
  obtain ⟨x3, zx3, z⟩ := z
  refine c_calli hH hS hRM (fun _ _ f1 f2 => va_runV (b := b2) (As := []) (rest := [.int a1]) S (metX0_kinds zx3) (cwV 0 hts (lw_V q1268 q1270 qs35 q167 q1271) rfl rfl rfl (by decide +kernel) ⟨(Nat.le_of_ble_eq_true rfl), (Nat.le_of_ble_eq_true rfl)⟩) (c_preV hG hH hS (ci := 0) rfl zb2) rfl rfl hl.1 (by rw [yb2]; rfl) (lv_room (Nat.le_of_ble_eq_true rfl)) dX0_isKind_6 ⟨f1, f2⟩) (fun H locs hH hS => ?_)
  refine lv_icmp_ge (tgt := 16) hx hb dX0_isKind_9 (by decide) (fun c4 => ?_) (fun c4 => ?_)
  · replace z := it c4 z
    refine lv_iconst (v := (0 : Int32)) hx hb dX0_isKind_16 (by decide) ?_
    exact c_iret' S hr hlk rfl hH hS z dX0_isKind_17
  replace z := ie c4 z
  refine lv_iconst (v := (1 : Int32)) hx hb dX0_isKind_12 (by decide) ?_
  refine lv_goto (tgt := 17) hx hb dX0_isKind_13 (by decide) ?_
  exact c_iret' S hr hlk rfl hH hS z dX0_isKind_17
/-! FourOnOne.film(II)I -/
def fX0_film (K : KE) (h : HS) (a0 : Nat) (a1 : Int32) (a2 : Int32) : Option (Int32) :=
  (rcv K h (some a0) 0).bind fun b1 =>
  (fX0_isFilm K h b1 a1).bind fun x2 =>
  if x2 = 0 then
    some (-1 : Int32)
  else
  if a2 = 0 then
    (rcv K h (some a0) 0).bind fun b13 =>
    (fX0_filmOf K h b13 a1).bind fun x14 =>
    (gI K h x14 7 1).bind fun v15 =>
    some v15
  else
  if a2 < (10 : Int32) then
    some (-1 : Int32)
  else
  (rcv K h (some a0) 0).bind fun b6 =>
  (fX0_isKind K h b6 (a2 - (10 : Int32))).bind fun x7 =>
  if x7 = 0 then
    some (-1 : Int32)
  else
  (rcv K h (some a0) 0).bind fun b9 =>
  (fX0_filmOf K h b9 a1).bind fun x10 =>
  (gR K h x10 7 2).bind fun v11 =>
  (cI K h v11 0 (a2 - (10 : Int32))).bind fun v12 =>
  some v12
set_option maxHeartbeats 4000000 in
theorem metX0_film {l : Launch} {A : Nat → Prop} {D : va_G} {ac : Nat → ClassId} {K : KE} {h : HS} {a0 : Nat} {a1 : Int32} {a2 : Int32} {x : Int32} (z : fX0_film K h a0 a1 a2 = some x) : Met l yX0_film (ws_ yX0_film cX0_film 3 (some .int)) (rmC 5 85 K h) (cP A D ac K h [va_rf (some a0), .int a1, .int a2]) (cQi A D ac K (h, x)) (K.2.2.1 - h.2.1) (K.2.2.2 - h.2.2) A := by
  refine c_entry (plainFor_of_name (by decide)) (Nat.le_of_ble_eq_true rfl) ?_
  intro p e s m below meth c S hr hlk hnm hG hRM hH hS ls hl
  replace hl : lv_has ls 3 [(0, va_rf (some a0)), (1, .int a1), (2, .int a2)] := hl
  replace hnm : meth.name = "film" := hnm
  replace S : CallFix p m c cX0_film 3 s _ lw_all RX0 := S
  obtain ⟨hx, hb, hml, hown, hts⟩ := id S
  unfold fX0_film at z
  refine c_aload_n hx hb dX0_film_0 rfl (lv_at hl 0 rfl) ?_
  refine lv_iload_n hx hb dX0_film_1 rfl (lv_at hl 1 rfl) ?_
  replace z := ob z
  obtain ⟨b1, zb1, z⟩ := z
  obtain ⟨yb1, zb1⟩ := rcv_e zb1
  replace z := ob z
  obtain ⟨x2, zx2, z⟩ := z
  refine c_calli hH hS hRM (fun _ _ f1 f2 => va_runV (b := b1) (As := [.int a1]) (rest := []) S (metX0_isFilm zx2) (cwV 1 hts (lw_V q1323 q1325 qs39 q167 q1326) rfl rfl rfl (by decide +kernel) ⟨(Nat.le_of_ble_eq_true rfl), (Nat.le_of_ble_eq_true rfl)⟩) (c_preV hG hH hS (ci := 0) rfl zb1) rfl rfl hl.1 (by rw [yb1]; rfl) (lv_room (Nat.le_of_ble_eq_true rfl)) dX0_film_2 ⟨f1, f2⟩) (fun H locs hH hS => ?_)
  refine lv_if_ne (tgt := 10) hx hb dX0_film_5 (by decide) (fun c3 => ?_) (fun c3 => ?_)
  rotate_left 1
  · replace z := it c3 z
    refine lv_iconst (v := (-1 : Int32)) hx hb dX0_film_8 (by decide) ?_
    exact c_iret' S hr hlk rfl hH hS z dX0_film_9
  replace z := ie c3 z
  refine lv_iload_n hx hb dX0_film_10 rfl (lv_at hl 2 rfl) ?_
  refine lv_if_ne (tgt := 25) hx hb dX0_film_11 (by decide) (fun c4 => ?_) (fun c4 => ?_)
  rotate_left 1
  · replace z := it c4 z
    refine c_aload_n hx hb dX0_film_14 rfl (lv_at hl 0 rfl) ?_
    refine lv_iload_n hx hb dX0_film_15 rfl (lv_at hl 1 rfl) ?_
    replace z := ob z
    obtain ⟨b13, zb13, z⟩ := z
    obtain ⟨yb13, zb13⟩ := rcv_e zb13
    replace z := ob z
    obtain ⟨x14, zx14, z⟩ := z
    refine c_callq hH hS hRM (fun _ _ f1 f2 => va_runV (b := b13) (As := [.int a1]) (rest := []) S (metX0_filmOf zx14) (cwV 1 hts (lw_V q1327 q1329 qs40 q167 q1330) rfl rfl rfl (by decide +kernel) ⟨(Nat.le_of_ble_eq_true rfl), (Nat.le_of_ble_eq_true rfl)⟩) (c_preV hG hH hS (ci := 0) rfl zb13) rfl rfl hl.1 (by rw [yb13]; rfl) (lv_room (Nat.le_of_ble_eq_true rfl)) dX0_film_16 ⟨f1, f2⟩) (fun H locs hH hS => ?_)
    replace z := ob z
    obtain ⟨v15, zv15, z⟩ := z
    obtain ⟨fsv15, yv15, zv15⟩ := gI_e zv15
    refine c_getN S hG hH (ci := 7) (k := 1) rfl in_X8 (Nat.le_of_ble_eq_true rfl) q932 (fun _ y => y) yv15 zv15 dX0_film_19 ?_
    refine lv_goto (tgt := 59) hx hb dX0_film_22 (by decide) ?_
    exact c_iret' S hr hlk rfl hH hS z dX0_film_59
  replace z := ie c4 z
  refine lv_iload_n hx hb dX0_film_25 rfl (lv_at hl 2 rfl) ?_
  refine lv_bipush (v := (10 : Int32)) hx hb dX0_film_26 (by decide) ?_
  refine lv_icmp_lt (tgt := 58) hx hb dX0_film_28 (by decide) (fun c5 => ?_) (fun c5 => ?_)
  · replace z := it c5 z
    refine lv_iconst (v := (-1 : Int32)) hx hb dX0_film_58 (by decide) ?_
    exact c_iret' S hr hlk rfl hH hS z dX0_film_59
  replace z := ie c5 z
  refine c_aload_n hx hb dX0_film_31 rfl (lv_at hl 0 rfl) ?_
  refine lv_iload_n hx hb dX0_film_32 rfl (lv_at hl 2 rfl) ?_
  refine lv_bipush (v := (10 : Int32)) hx hb dX0_film_33 (by decide) ?_
  refine lv_isub hx hb dX0_film_35 ?_
  replace z := ob z
  obtain ⟨b6, zb6, z⟩ := z
  obtain ⟨yb6, zb6⟩ := rcv_e zb6
  replace z := ob z
  obtain ⟨x7, zx7, z⟩ := z
  refine c_calli hH hS hRM (fun _ _ f1 f2 => va_runV (b := b6) (As := [.int (a2 - (10 : Int32))]) (rest := []) S (metX0_isKind zx7) (cwV 1 hts (lw_V q1332 q1334 qs41 q167 q1335) rfl rfl rfl (by decide +kernel) ⟨(Nat.le_of_ble_eq_true rfl), (Nat.le_of_ble_eq_true rfl)⟩) (c_preV hG hH hS (ci := 0) rfl zb6) rfl rfl hl.1 (by rw [yb6]; rfl) (lv_room (Nat.le_of_ble_eq_true rfl)) dX0_film_36 ⟨f1, f2⟩) (fun H locs hH hS => ?_)
  refine lv_if_eq (tgt := 58) hx hb dX0_film_39 (by decide) (fun c8 => ?_) (fun c8 => ?_)
  · replace z := it c8 z
    refine lv_iconst (v := (-1 : Int32)) hx hb dX0_film_58 (by decide) ?_
    exact c_iret' S hr hlk rfl hH hS z dX0_film_59
  replace z := ie c8 z
  refine c_aload_n hx hb dX0_film_42 rfl (lv_at hl 0 rfl) ?_
  refine lv_iload_n hx hb dX0_film_43 rfl (lv_at hl 1 rfl) ?_
  replace z := ob z
  obtain ⟨b9, zb9, z⟩ := z
  obtain ⟨yb9, zb9⟩ := rcv_e zb9
  replace z := ob z
  obtain ⟨x10, zx10, z⟩ := z
  refine c_callq hH hS hRM (fun _ _ f1 f2 => va_runV (b := b9) (As := [.int a1]) (rest := []) S (metX0_filmOf zx10) (cwV 1 hts (lw_V q1327 q1329 qs40 q167 q1330) rfl rfl rfl (by decide +kernel) ⟨(Nat.le_of_ble_eq_true rfl), (Nat.le_of_ble_eq_true rfl)⟩) (c_preV hG hH hS (ci := 0) rfl zb9) rfl rfl hl.1 (by rw [yb9]; rfl) (lv_room (Nat.le_of_ble_eq_true rfl)) dX0_film_44 ⟨f1, f2⟩) (fun H locs hH hS => ?_)
  replace z := ob z
  obtain ⟨v11, zv11, z⟩ := z
  obtain ⟨fsv11, yv11, zv11⟩ := gR_e zv11
  refine c_getN S hG hH (ci := 7) (k := 2) rfl in_X8 (Nat.le_of_ble_eq_true rfl) q936 (fun _ y => y) yv11 zv11 dX0_film_47 ?_
  refine lv_iload_n hx hb dX0_film_50 rfl (lv_at hl 2 rfl) ?_
  refine lv_bipush (v := (10 : Int32)) hx hb dX0_film_51 (by decide) ?_
  refine lv_isub hx hb dX0_film_53 ?_
  replace z := ob z
  obtain ⟨v12, zv12, z⟩ := z
  refine c_iald S hG hH zv12 dX0_film_54 ?_
  refine lv_goto (tgt := 59) hx hb dX0_film_55 (by decide) ?_
  exact c_iret' S hr hlk rfl hH hS z dX0_film_59
/-! FourOnOne.isPerson(I)Z -/
def fX0_isPerson (K : KE) (h : HS) (a0 : Nat) (a1 : Int32) : Option (Int32) :=
  if a1 < 0 then
    some (0 : Int32)
  else
  (rcv K h (some a0) 0).bind fun b2 =>
  (fX0_people K h b2).bind fun x3 =>
  if x3 ≤ a1 then
    some (0 : Int32)
  else
  some (1 : Int32)
set_option maxHeartbeats 4000000 in
theorem metX0_isPerson {l : Launch} {A : Nat → Prop} {D : va_G} {ac : Nat → ClassId} {K : KE} {h : HS} {a0 : Nat} {a1 : Int32} {x : Int32} (z : fX0_isPerson K h a0 a1 = some x) : Met l yX0_isPerson (ws_ yX0_isPerson cX0_isPerson 2 (some .boolean)) (rmC 3 40 K h) (cP A D ac K h [va_rf (some a0), .int a1]) (cQi A D ac K (h, x)) (K.2.2.1 - h.2.1) (K.2.2.2 - h.2.2) A := by
  refine c_entry (plainFor_of_name (by decide)) (Nat.le_of_ble_eq_true rfl) ?_
  intro p e s m below meth c S hr hlk hnm hG hRM hH hS ls hl
  replace hl : lv_has ls 2 [(0, va_rf (some a0)), (1, .int a1)] := hl
  replace hnm : meth.name = "isPerson" := hnm
  replace S : CallFix p m c cX0_isPerson 2 s _ lw_all RX0 := S
  obtain ⟨hx, hb, hml, hown, hts⟩ := id S
  unfold fX0_isPerson at z
  refine lv_iload_n hx hb dX0_isPerson_0 rfl (lv_at hl 1 rfl) ?_
  refine lv_if_lt (tgt := 16) hx hb dX0_isPerson_1 (by decide) (fun c1 => ?_) (fun c1 => ?_)
  · replace z := it c1 z
    refine lv_iconst (v := (0 : Int32)) hx hb dX0_isPerson_16 (by decide) ?_
    exact c_iret' S hr hlk rfl hH hS z dX0_isPerson_17
  replace z := ie c1 z
  refine lv_iload_n hx hb dX0_isPerson_4 rfl (lv_at hl 1 rfl) ?_
  refine c_aload_n hx hb dX0_isPerson_5 rfl (lv_at hl 0 rfl) ?_
  replace z := ob z
  obtain ⟨b2, zb2, z⟩ := z
  obtain ⟨yb2, zb2⟩ := rcv_e zb2
  replace z := ob z
  obtain ⟨x3, zx3, z⟩ := z
  refine c_calli hH hS hRM (fun _ _ f1 f2 => va_runV (b := b2) (As := []) (rest := [.int a1]) S (metX0_people zx3) (cwV 0 hts (lw_V q1278 q1280 qs37 q167 q1281) rfl rfl rfl (by decide +kernel) ⟨(Nat.le_of_ble_eq_true rfl), (Nat.le_of_ble_eq_true rfl)⟩) (c_preV hG hH hS (ci := 0) rfl zb2) rfl rfl hl.1 (by rw [yb2]; rfl) (lv_room (Nat.le_of_ble_eq_true rfl)) dX0_isPerson_6 ⟨f1, f2⟩) (fun H locs hH hS => ?_)
  refine lv_icmp_ge (tgt := 16) hx hb dX0_isPerson_9 (by decide) (fun c4 => ?_) (fun c4 => ?_)
  · replace z := it c4 z
    refine lv_iconst (v := (0 : Int32)) hx hb dX0_isPerson_16 (by decide) ?_
    exact c_iret' S hr hlk rfl hH hS z dX0_isPerson_17
  replace z := ie c4 z
  refine lv_iconst (v := (1 : Int32)) hx hb dX0_isPerson_12 (by decide) ?_
  refine lv_goto (tgt := 17) hx hb dX0_isPerson_13 (by decide) ?_
  exact c_iret' S hr hlk rfl hH hS z dX0_isPerson_17
/-! FourOnOne.personOf(I)LFourOnOne$Person; -/
def fX0_personOf (K : KE) (h : HS) (a0 : Nat) (a1 : Int32) : Option (Option Nat) :=
  (gR K h (some a0) 0 0).bind fun v1 =>
  (gR K h v1 1 8).bind fun v2 =>
  (rcv K h v2 19).bind fun b3 =>
  (fJ2_get K h b3 a1).bind fun x4 =>
  (ckL K h x4 [8]).bind fun u5 =>
  some x4
set_option maxHeartbeats 4000000 in
theorem metX0_personOf {l : Launch} {A : Nat → Prop} {D : va_G} {ac : Nat → ClassId} {K : KE} {h : HS} {a0 : Nat} {a1 : Int32} {x : Option Nat} (z : fX0_personOf K h a0 a1 = some x) : Met l yX0_personOf (ws_ yX0_personOf cX0_personOf 2 (some (.object "FourOnOne$Person"))) (rmC 4 64 K h) (cP A D ac K h [va_rf (some a0), .int a1]) (cQq A D ac K (h, x)) (K.2.2.1 - h.2.1) (K.2.2.2 - h.2.2) A := by
  refine c_entry (plainFor_of_name (by decide)) (Nat.le_of_ble_eq_true rfl) ?_
  intro p e s m below meth c S hr hlk hnm hG hRM hH hS ls hl
  replace hl : lv_has ls 2 [(0, va_rf (some a0)), (1, .int a1)] := hl
  replace hnm : meth.name = "personOf" := hnm
  replace S : CallFix p m c cX0_personOf 2 s _ lw_all RX0 := S
  obtain ⟨hx, hb, hml, hown, hts⟩ := id S
  unfold fX0_personOf at z
  refine c_aload_n hx hb dX0_personOf_0 rfl (lv_at hl 0 rfl) ?_
  replace z := ob z
  obtain ⟨v1, zv1, z⟩ := z
  obtain ⟨fsv1, yv1, zv1⟩ := gR_e zv1
  refine c_get S hG hH (ci := 0) (k := 0) rfl in_X0 (Nat.le_of_ble_eq_true rfl) q478 (fun _ y => y) yv1 zv1 dX0_personOf_1 ?_
  replace z := ob z
  obtain ⟨v2, zv2, z⟩ := z
  obtain ⟨fsv2, yv2, zv2⟩ := gR_e zv2
  refine c_getN S hG hH (ci := 1) (k := 8) rfl in_X1 (Nat.le_of_ble_eq_true rfl) q270 (fun _ y => y) yv2 zv2 dX0_personOf_4 ?_
  refine lv_iload_n hx hb dX0_personOf_7 rfl (lv_at hl 1 rfl) ?_
  replace z := ob z
  obtain ⟨b3, zb3, z⟩ := z
  obtain ⟨yb3, zb3⟩ := rcv_e zb3
  replace z := ob z
  obtain ⟨x4, zx4, z⟩ := z
  refine c_callFq hH hS hRM (fun _ _ f1 f2 => va_runF (b := b3) (As := [.int a1]) (rest := []) (hG.1.1 19 _ rfl).2 S (metJ2_get zx4) (va_cwF 1 hts (lw_app (lw_l4 q1298 q803 q805 q171) (lw_meth q807)) rfl rfl rfl hG.2.2.2.2.1.2.1 (by decide +kernel) ⟨(Nat.le_of_ble_eq_true rfl), (Nat.le_of_ble_eq_true rfl)⟩) (c_preV hG hH hS (ci := 19) rfl zb3) rfl rfl hl.1 (by rw [yb3]; rfl) (lv_room (Nat.le_of_ble_eq_true rfl)) dX0_personOf_8 ⟨f1, f2⟩) (fun H locs hH hS => ?_)
  replace z := ob z
  obtain ⟨u5, zu5, z⟩ := z
  refine c_castL S hG hH q1348 [8] cast_Person zu5 dX0_personOf_13 ?_
  exact c_aret' S hr (Or.inl ⟨_, rfl⟩) hlk hH hS z dX0_personOf_16
/-! FourOnOne.person(II)I -/
def fX0_person (K : KE) (h : HS) (a0 : Nat) (a1 : Int32) (a2 : Int32) : Option (Int32) :=
  (rcv K h (some a0) 0).bind fun b1 =>
  (fX0_isPerson K h b1 a1).bind fun x2 =>
  if x2 = 0 then
    some (-1 : Int32)
  else
  if a2 = 0 then
    (rcv K h (some a0) 0).bind fun b4 =>
    (fX0_personOf K h b4 a1).bind fun x5 =>
    (gI K h x5 8 1).bind fun v6 =>
    some v6
  else
  if a2 = 1 then
    (rcv K h (some a0) 0).bind fun b8 =>
    (fX0_personOf K h b8 a1).bind fun x9 =>
    (gI K h x9 8 2).bind fun v10 =>
    some v10
  else
  if a2 = 2 then
    (gR K h (some a0) 0 9).bind fun v12 =>
    (gI K h v12 5 1).bind fun v13 =>
    (fX0_has K h v13 a1).bind fun x14 =>
    if x14 = 0 then
      some (0 : Int32)
    else
    some (1 : Int32)
  else
  if a2 = 3 then
    (gR K h (some a0) 0 9).bind fun v17 =>
    (gR K h v17 5 5).bind fun v18 =>
    (cI K h v18 0 a1).bind fun v19 =>
    some v19
  else
  if a2 < (10 : Int32) then
    some (-1 : Int32)
  else
  (rcv K h (some a0) 0).bind fun b22 =>
  (fX0_isKind K h b22 (a2 - (10 : Int32))).bind fun x23 =>
  if x23 = 0 then
    some (-1 : Int32)
  else
  (rcv K h (some a0) 0).bind fun b25 =>
  (fX0_personOf K h b25 a1).bind fun x26 =>
  (gR K h x26 8 3).bind fun v27 =>
  (cI K h v27 0 (a2 - (10 : Int32))).bind fun v28 =>
  some v28
set_option maxHeartbeats 4000000 in
theorem metX0_person {l : Launch} {A : Nat → Prop} {D : va_G} {ac : Nat → ClassId} {K : KE} {h : HS} {a0 : Nat} {a1 : Int32} {a2 : Int32} {x : Int32} (z : fX0_person K h a0 a1 a2 = some x) : Met l yX0_person (ws_ yX0_person cX0_person 3 (some .int)) (rmC 5 85 K h) (cP A D ac K h [va_rf (some a0), .int a1, .int a2]) (cQi A D ac K (h, x)) (K.2.2.1 - h.2.1) (K.2.2.2 - h.2.2) A := by
  refine c_entry (plainFor_of_name (by decide)) (Nat.le_of_ble_eq_true rfl) ?_
  intro p e s m below meth c S hr hlk hnm hG hRM hH hS ls hl
  replace hl : lv_has ls 3 [(0, va_rf (some a0)), (1, .int a1), (2, .int a2)] := hl
  replace hnm : meth.name = "person" := hnm
  replace S : CallFix p m c cX0_person 3 s _ lw_all RX0 := S
  obtain ⟨hx, hb, hml, hown, hts⟩ := id S
  unfold fX0_person at z
  refine c_aload_n hx hb dX0_person_0 rfl (lv_at hl 0 rfl) ?_
  refine lv_iload_n hx hb dX0_person_1 rfl (lv_at hl 1 rfl) ?_
  replace z := ob z
  obtain ⟨b1, zb1, z⟩ := z
  obtain ⟨yb1, zb1⟩ := rcv_e zb1
  replace z := ob z
  obtain ⟨x2, zx2, z⟩ := z
  refine c_calli hH hS hRM (fun _ _ f1 f2 => va_runV (b := b1) (As := [.int a1]) (rest := []) S (metX0_isPerson zx2) (cwV 1 hts (lw_V q1340 q1342 qs42 q167 q1343) rfl rfl rfl (by decide +kernel) ⟨(Nat.le_of_ble_eq_true rfl), (Nat.le_of_ble_eq_true rfl)⟩) (c_preV hG hH hS (ci := 0) rfl zb1) rfl rfl hl.1 (by rw [yb1]; rfl) (lv_room (Nat.le_of_ble_eq_true rfl)) dX0_person_2 ⟨f1, f2⟩) (fun H locs hH hS => ?_)
  refine lv_if_ne (tgt := 10) hx hb dX0_person_5 (by decide) (fun c3 => ?_) (fun c3 => ?_)
  rotate_left 1
  · replace z := it c3 z
    refine lv_iconst (v := (-1 : Int32)) hx hb dX0_person_8 (by decide) ?_
    exact c_iret' S hr hlk rfl hH hS z dX0_person_9
  replace z := ie c3 z
  refine lv_iload_n hx hb dX0_person_10 rfl (lv_at hl 2 rfl) ?_
  by_cases c7 : a2 = 0
  · replace z := it c7 z
    refine lv_tableIn (off := 29) (tgt := 40) hx hb dX0_person_11 (by rw [c7]; decide) (by rw [c7]; decide) (by rw [c7]; rfl) (by decide) ?_
    refine c_aload_n hx hb dX0_person_40 rfl (lv_at hl 0 rfl) ?_
    refine lv_iload_n hx hb dX0_person_41 rfl (lv_at hl 1 rfl) ?_
    replace z := ob z
    obtain ⟨b4, zb4, z⟩ := z
    obtain ⟨yb4, zb4⟩ := rcv_e zb4
    replace z := ob z
    obtain ⟨x5, zx5, z⟩ := z
    refine c_callq hH hS hRM (fun _ _ f1 f2 => va_runV (b := b4) (As := [.int a1]) (rest := []) S (metX0_personOf zx5) (cwV 1 hts (lw_V q1344 q1346 qs43 q167 q1347) rfl rfl rfl (by decide +kernel) ⟨(Nat.le_of_ble_eq_true rfl), (Nat.le_of_ble_eq_true rfl)⟩) (c_preV hG hH hS (ci := 0) rfl zb4) rfl rfl hl.1 (by rw [yb4]; rfl) (lv_room (Nat.le_of_ble_eq_true rfl)) dX0_person_42 ⟨f1, f2⟩) (fun H locs hH hS => ?_)
    replace z := ob z
    obtain ⟨v6, zv6, z⟩ := z
    obtain ⟨fsv6, yv6, zv6⟩ := gI_e zv6
    refine c_getN S hG hH (ci := 8) (k := 1) rfl in_X9 (Nat.le_of_ble_eq_true rfl) q958 (fun _ y => y) yv6 zv6 dX0_person_45 ?_
    exact c_iret' S hr hlk rfl hH hS z dX0_person_48
  replace z := ie c7 z
  by_cases c11 : a2 = 1
  · replace z := it c11 z
    refine lv_tableIn (off := 38) (tgt := 49) hx hb dX0_person_11 (by rw [c11]; decide) (by rw [c11]; decide) (by rw [c11]; rfl) (by decide) ?_
    refine c_aload_n hx hb dX0_person_49 rfl (lv_at hl 0 rfl) ?_
    refine lv_iload_n hx hb dX0_person_50 rfl (lv_at hl 1 rfl) ?_
    replace z := ob z
    obtain ⟨b8, zb8, z⟩ := z
    obtain ⟨yb8, zb8⟩ := rcv_e zb8
    replace z := ob z
    obtain ⟨x9, zx9, z⟩ := z
    refine c_callq hH hS hRM (fun _ _ f1 f2 => va_runV (b := b8) (As := [.int a1]) (rest := []) S (metX0_personOf zx9) (cwV 1 hts (lw_V q1344 q1346 qs43 q167 q1347) rfl rfl rfl (by decide +kernel) ⟨(Nat.le_of_ble_eq_true rfl), (Nat.le_of_ble_eq_true rfl)⟩) (c_preV hG hH hS (ci := 0) rfl zb8) rfl rfl hl.1 (by rw [yb8]; rfl) (lv_room (Nat.le_of_ble_eq_true rfl)) dX0_person_51 ⟨f1, f2⟩) (fun H locs hH hS => ?_)
    replace z := ob z
    obtain ⟨v10, zv10, z⟩ := z
    obtain ⟨fsv10, yv10, zv10⟩ := gI_e zv10
    refine c_getN S hG hH (ci := 8) (k := 2) rfl in_X9 (Nat.le_of_ble_eq_true rfl) q960 (fun _ y => y) yv10 zv10 dX0_person_54 ?_
    exact c_iret' S hr hlk rfl hH hS z dX0_person_57
  replace z := ie c11 z
  by_cases c16 : a2 = 2
  · replace z := it c16 z
    refine lv_tableIn (off := 47) (tgt := 58) hx hb dX0_person_11 (by rw [c16]; decide) (by rw [c16]; decide) (by rw [c16]; rfl) (by decide) ?_
    refine c_aload_n hx hb dX0_person_58 rfl (lv_at hl 0 rfl) ?_
    replace z := ob z
    obtain ⟨v12, zv12, z⟩ := z
    obtain ⟨fsv12, yv12, zv12⟩ := gR_e zv12
    refine c_get S hG hH (ci := 0) (k := 9) rfl in_X0 (Nat.le_of_ble_eq_true rfl) q489 (fun _ y => y) yv12 zv12 dX0_person_59 ?_
    replace z := ob z
    obtain ⟨v13, zv13, z⟩ := z
    obtain ⟨fsv13, yv13, zv13⟩ := gI_e zv13
    refine c_getN S hG hH (ci := 5) (k := 1) rfl in_X5 (Nat.le_of_ble_eq_true rfl) q432 (fun _ y => y) yv13 zv13 dX0_person_62 ?_
    refine lv_iload_n hx hb dX0_person_65 rfl (lv_at hl 1 rfl) ?_
    replace z := ob z
    obtain ⟨x14, zx14, z⟩ := z
    refine c_calli hH hS hRM (fun _ _ f1 f2 => va_runS (As := [.int v13, .int a1]) (rest := []) S (metX0_has zx14) (va_cwS 2 hts (lw_S q1349 q975 q167 q976) rfl rfl rfl (by decide +kernel) ⟨(Nat.le_of_ble_eq_true rfl), (Nat.le_of_ble_eq_true rfl)⟩) (c_pre hG hH hS) rfl rfl hl.1 rfl (lv_room (Nat.le_of_ble_eq_true rfl)) dX0_person_66 ⟨f1, f2⟩) (fun H locs hH hS => ?_)
    refine lv_if_eq (tgt := 76) hx hb dX0_person_69 (by decide) (fun c15 => ?_) (fun c15 => ?_)
    · replace z := it c15 z
      refine lv_iconst (v := (0 : Int32)) hx hb dX0_person_76 (by decide) ?_
      exact c_iret' S hr hlk rfl hH hS z dX0_person_77
    replace z := ie c15 z
    refine lv_iconst (v := (1 : Int32)) hx hb dX0_person_72 (by decide) ?_
    refine lv_goto (tgt := 77) hx hb dX0_person_73 (by decide) ?_
    exact c_iret' S hr hlk rfl hH hS z dX0_person_77
  replace z := ie c16 z
  by_cases c20 : a2 = 3
  · replace z := it c20 z
    refine lv_tableIn (off := 67) (tgt := 78) hx hb dX0_person_11 (by rw [c20]; decide) (by rw [c20]; decide) (by rw [c20]; rfl) (by decide) ?_
    refine c_aload_n hx hb dX0_person_78 rfl (lv_at hl 0 rfl) ?_
    replace z := ob z
    obtain ⟨v17, zv17, z⟩ := z
    obtain ⟨fsv17, yv17, zv17⟩ := gR_e zv17
    refine c_get S hG hH (ci := 0) (k := 9) rfl in_X0 (Nat.le_of_ble_eq_true rfl) q489 (fun _ y => y) yv17 zv17 dX0_person_79 ?_
    replace z := ob z
    obtain ⟨v18, zv18, z⟩ := z
    obtain ⟨fsv18, yv18, zv18⟩ := gR_e zv18
    refine c_getN S hG hH (ci := 5) (k := 5) rfl in_X5 (Nat.le_of_ble_eq_true rfl) q440 (fun _ y => y) yv18 zv18 dX0_person_82 ?_
    refine lv_iload_n hx hb dX0_person_85 rfl (lv_at hl 1 rfl) ?_
    replace z := ob z
    obtain ⟨v19, zv19, z⟩ := z
    refine c_iald S hG hH zv19 dX0_person_86 ?_
    exact c_iret' S hr hlk rfl hH hS z dX0_person_87
  replace z := ie c20 z
  refine lv_tableOut (tgt := 88) hx hb dX0_person_11 (sw_out0_4 c7 c11 c16 c20) (by decide) ?_
  refine lv_iload_n hx hb dX0_person_88 rfl (lv_at hl 2 rfl) ?_
  refine lv_bipush (v := (10 : Int32)) hx hb dX0_person_89 (by decide) ?_
  refine lv_icmp_lt (tgt := 121) hx hb dX0_person_91 (by decide) (fun c21 => ?_) (fun c21 => ?_)
  · replace z := it c21 z
    refine lv_iconst (v := (-1 : Int32)) hx hb dX0_person_121 (by decide) ?_
    exact c_iret' S hr hlk rfl hH hS z dX0_person_122
  replace z := ie c21 z
  refine c_aload_n hx hb dX0_person_94 rfl (lv_at hl 0 rfl) ?_
  refine lv_iload_n hx hb dX0_person_95 rfl (lv_at hl 2 rfl) ?_
  refine lv_bipush (v := (10 : Int32)) hx hb dX0_person_96 (by decide) ?_
  refine lv_isub hx hb dX0_person_98 ?_
  replace z := ob z
  obtain ⟨b22, zb22, z⟩ := z
  obtain ⟨yb22, zb22⟩ := rcv_e zb22
  replace z := ob z
  obtain ⟨x23, zx23, z⟩ := z
  refine c_calli hH hS hRM (fun _ _ f1 f2 => va_runV (b := b22) (As := [.int (a2 - (10 : Int32))]) (rest := []) S (metX0_isKind zx23) (cwV 1 hts (lw_V q1332 q1334 qs41 q167 q1335) rfl rfl rfl (by decide +kernel) ⟨(Nat.le_of_ble_eq_true rfl), (Nat.le_of_ble_eq_true rfl)⟩) (c_preV hG hH hS (ci := 0) rfl zb22) rfl rfl hl.1 (by rw [yb22]; rfl) (lv_room (Nat.le_of_ble_eq_true rfl)) dX0_person_99 ⟨f1, f2⟩) (fun H locs hH hS => ?_)
  refine lv_if_eq (tgt := 121) hx hb dX0_person_102 (by decide) (fun c24 => ?_) (fun c24 => ?_)
  · replace z := it c24 z
    refine lv_iconst (v := (-1 : Int32)) hx hb dX0_person_121 (by decide) ?_
    exact c_iret' S hr hlk rfl hH hS z dX0_person_122
  replace z := ie c24 z
  refine c_aload_n hx hb dX0_person_105 rfl (lv_at hl 0 rfl) ?_
  refine lv_iload_n hx hb dX0_person_106 rfl (lv_at hl 1 rfl) ?_
  replace z := ob z
  obtain ⟨b25, zb25, z⟩ := z
  obtain ⟨yb25, zb25⟩ := rcv_e zb25
  replace z := ob z
  obtain ⟨x26, zx26, z⟩ := z
  refine c_callq hH hS hRM (fun _ _ f1 f2 => va_runV (b := b25) (As := [.int a1]) (rest := []) S (metX0_personOf zx26) (cwV 1 hts (lw_V q1344 q1346 qs43 q167 q1347) rfl rfl rfl (by decide +kernel) ⟨(Nat.le_of_ble_eq_true rfl), (Nat.le_of_ble_eq_true rfl)⟩) (c_preV hG hH hS (ci := 0) rfl zb25) rfl rfl hl.1 (by rw [yb25]; rfl) (lv_room (Nat.le_of_ble_eq_true rfl)) dX0_person_107 ⟨f1, f2⟩) (fun H locs hH hS => ?_)
  replace z := ob z
  obtain ⟨v27, zv27, z⟩ := z
  obtain ⟨fsv27, yv27, zv27⟩ := gR_e zv27
  refine c_getN S hG hH (ci := 8) (k := 3) rfl in_X9 (Nat.le_of_ble_eq_true rfl) q963 (fun _ y => y) yv27 zv27 dX0_person_110 ?_
  refine lv_iload_n hx hb dX0_person_113 rfl (lv_at hl 2 rfl) ?_
  refine lv_bipush (v := (10 : Int32)) hx hb dX0_person_114 (by decide) ?_
  refine lv_isub hx hb dX0_person_116 ?_
  replace z := ob z
  obtain ⟨v28, zv28, z⟩ := z
  refine c_iald S hG hH zv28 dX0_person_117 ?_
  refine lv_goto (tgt := 122) hx hb dX0_person_118 (by decide) ?_
  exact c_iret' S hr hlk rfl hH hS z dX0_person_122
/-! FourOnOne.taste(II)I -/
def fX0_taste_13 (K : KE) (h : HS) (a0 : Nat) (a1 : Int32) (a2 : Int32) : Option (Int32) :=
  (rcv K h (some a0) 0).bind fun b1 =>
  (fX0_isKind K h b1 a2).bind fun x2 =>
  if x2 = 0 then
    some (-1 : Int32)
  else
  (gR K h (some a0) 0 9).bind fun v4 =>
  (gR K h v4 5 3).bind fun v5 =>
  (cR K h v5 8 (a1 + (1 : Int32))).bind fun v6 =>
  (cI K h v6 0 a2).bind fun v7 =>
  some v7
def fX0_taste (K : KE) (h : HS) (a0 : Nat) (a1 : Int32) (a2 : Int32) : Option (Int32) :=
  if a1 = (-1 : Int32) then
    fX0_taste_13 K h a0 a1 a2
  else
  (rcv K h (some a0) 0).bind fun b2 =>
  (fX0_isPerson K h b2 a1).bind fun x3 =>
  if x3 = 0 then
    some (-1 : Int32)
  else
  fX0_taste_13 K h a0 a1 a2
set_option maxHeartbeats 4000000 in
theorem wX0_taste_13 {p : Program} {l : Launch} {e : Env} {s : State} {m : MethodId} {args : Array Value} {below : List Frame} {meth : Method} {c : Code} {A : Nat → Prop} {D : va_G} {ac : Nat → ClassId} {K : KE} {h : HS} {a0 : Nat} (S : CallFix p m c cX0_taste 3 s args lw_all RX0) (hr : meth.sig.returnType = some .int) (hlk : meth.locks = false) (hnm : meth.name = "taste") (hG : GK A D ac K s) (hRM : RM K s (rmC 4 61 K h)) {x : Int32} : ∀ (a1 : Int32) (a2 : Int32), fX0_taste_13 K h a0 a1 a2 = some x → cGo p l e (rmC 4 61 K h) s m args below meth c A D ac K (MQ below (cQi A D ac K (h, x)) args s (K.2.2.1 - h.2.1) (K.2.2.2 - h.2.2) A) 3 13 [(0, va_rf (some a0)), (1, .int a1), (2, .int a2)] [] h := by
  obtain ⟨hx, hb, hml, hown, hts⟩ := id S
  intro a1 a2 z H locs hH hS ls hl
  unfold fX0_taste_13 at z
  refine c_aload_n hx hb dX0_taste_13 rfl (lv_at hl 0 rfl) ?_
  refine lv_iload_n hx hb dX0_taste_14 rfl (lv_at hl 2 rfl) ?_
  replace z := ob z
  obtain ⟨b1, zb1, z⟩ := z
  obtain ⟨yb1, zb1⟩ := rcv_e zb1
  replace z := ob z
  obtain ⟨x2, zx2, z⟩ := z
  refine c_calli hH hS hRM (fun _ _ f1 f2 => va_runV (b := b1) (As := [.int a2]) (rest := []) S (metX0_isKind zx2) (cwV 1 hts (lw_V q1332 q1334 qs41 q167 q1335) rfl rfl rfl (by decide +kernel) ⟨(Nat.le_of_ble_eq_true rfl), (Nat.le_of_ble_eq_true rfl)⟩) (c_preV hG hH hS (ci := 0) rfl zb1) rfl rfl hl.1 (by rw [yb1]; rfl) (lv_room (Nat.le_of_ble_eq_true rfl)) dX0_taste_15 ⟨f1, f2⟩) (fun H locs hH hS => ?_)
  refine lv_if_eq (tgt := 37) hx hb dX0_taste_18 (by decide) (fun c3 => ?_) (fun c3 => ?_)
  · replace z := it c3 z
    refine lv_iconst (v := (-1 : Int32)) hx hb dX0_taste_37 (by decide) ?_
    exact c_iret' S hr hlk rfl hH hS z dX0_taste_38
  replace z := ie c3 z
  refine c_aload_n hx hb dX0_taste_21 rfl (lv_at hl 0 rfl) ?_
  replace z := ob z
  obtain ⟨v4, zv4, z⟩ := z
  obtain ⟨fsv4, yv4, zv4⟩ := gR_e zv4
  refine c_get S hG hH (ci := 0) (k := 9) rfl in_X0 (Nat.le_of_ble_eq_true rfl) q489 (fun _ y => y) yv4 zv4 dX0_taste_22 ?_
  replace z := ob z
  obtain ⟨v5, zv5, z⟩ := z
  obtain ⟨fsv5, yv5, zv5⟩ := gR_e zv5
  refine c_getN S hG hH (ci := 5) (k := 3) rfl in_X5 (Nat.le_of_ble_eq_true rfl) q436 (fun _ y => y) yv5 zv5 dX0_taste_25 ?_
  refine lv_iload_n hx hb dX0_taste_28 rfl (lv_at hl 1 rfl) ?_
  refine lv_iconst (v := (1 : Int32)) hx hb dX0_taste_29 (by decide) ?_
  refine lv_iadd hx hb dX0_taste_30 ?_
  replace z := ob z
  obtain ⟨v6, zv6, z⟩ := z
  refine c_aald S hG hH 8 rfl rfl zv6 dX0_taste_31 ?_
  refine lv_iload_n hx hb dX0_taste_32 rfl (lv_at hl 2 rfl) ?_
  replace z := ob z
  obtain ⟨v7, zv7, z⟩ := z
  refine c_iald S hG hH zv7 dX0_taste_33 ?_
  refine lv_goto (tgt := 38) hx hb dX0_taste_34 (by decide) ?_
  exact c_iret' S hr hlk rfl hH hS z dX0_taste_38
set_option maxHeartbeats 4000000 in
theorem metX0_taste {l : Launch} {A : Nat → Prop} {D : va_G} {ac : Nat → ClassId} {K : KE} {h : HS} {a0 : Nat} {a1 : Int32} {a2 : Int32} {x : Int32} (z : fX0_taste K h a0 a1 a2 = some x) : Met l yX0_taste (ws_ yX0_taste cX0_taste 3 (some .int)) (rmC 4 61 K h) (cP A D ac K h [va_rf (some a0), .int a1, .int a2]) (cQi A D ac K (h, x)) (K.2.2.1 - h.2.1) (K.2.2.2 - h.2.2) A := by
  refine c_entry (plainFor_of_name (by decide)) (Nat.le_of_ble_eq_true rfl) ?_
  intro p e s m below meth c S hr hlk hnm hG hRM hH hS ls hl
  replace hl : lv_has ls 3 [(0, va_rf (some a0)), (1, .int a1), (2, .int a2)] := hl
  replace hnm : meth.name = "taste" := hnm
  replace S : CallFix p m c cX0_taste 3 s _ lw_all RX0 := S
  obtain ⟨hx, hb, hml, hown, hts⟩ := id S
  unfold fX0_taste at z
  refine lv_iload_n hx hb dX0_taste_0 rfl (lv_at hl 1 rfl) ?_
  refine lv_iconst (v := (-1 : Int32)) hx hb dX0_taste_1 (by decide) ?_
  refine lv_icmp_eq (tgt := 13) hx hb dX0_taste_2 (by decide) (fun c1 => ?_) (fun c1 => ?_)
  · replace z := it c1 z
    exact wX0_taste_13 S hr hlk hnm hG hRM a1 a2 z _ _ hH hS _ (lv_sub hl [0, 1, 2] rfl)
  replace z := ie c1 z
  refine c_aload_n hx hb dX0_taste_5 rfl (lv_at hl 0 rfl) ?_
  refine lv_iload_n hx hb dX0_taste_6 rfl (lv_at hl 1 rfl) ?_
  replace z := ob z
  obtain ⟨b2, zb2, z⟩ := z
  obtain ⟨yb2, zb2⟩ := rcv_e zb2
  replace z := ob z
  obtain ⟨x3, zx3, z⟩ := z
  refine c_calli hH hS hRM (fun _ _ f1 f2 => va_runV (b := b2) (As := [.int a1]) (rest := []) S (metX0_isPerson zx3) (cwV 1 hts (lw_V q1340 q1342 qs42 q167 q1343) rfl rfl rfl (by decide +kernel) ⟨(Nat.le_of_ble_eq_true rfl), (Nat.le_of_ble_eq_true rfl)⟩) (c_preV hG hH hS (ci := 0) rfl zb2) rfl rfl hl.1 (by rw [yb2]; rfl) (lv_room (Nat.le_of_ble_eq_true rfl)) dX0_taste_7 ⟨f1, f2⟩) (fun H locs hH hS => ?_)
  refine lv_if_eq (tgt := 37) hx hb dX0_taste_10 (by decide) (fun c4 => ?_) (fun c4 => ?_)
  rotate_left 1
  · replace z := ie c4 z
    exact wX0_taste_13 S hr hlk hnm hG hRM a1 a2 z _ _ hH hS _ (lv_sub hl [0, 1, 2] rfl)
  replace z := it c4 z
  refine lv_iconst (v := (-1 : Int32)) hx hb dX0_taste_37 (by decide) ?_
  exact c_iret' S hr hlk rfl hH hS z dX0_taste_38
/-! FourOnOne.seen(II)I -/
def fX0_seen_13 (K : KE) (h : HS) (a0 : Nat) (a1 : Int32) (a2 : Int32) : Option (Int32) :=
  (rcv K h (some a0) 0).bind fun b1 =>
  (fX0_isFilm K h b1 a2).bind fun x2 =>
  if x2 = 0 then
    some (-1 : Int32)
  else
  (gR K h (some a0) 0 9).bind fun v4 =>
  (gR K h v4 5 4).bind fun v5 =>
  (cR K h v5 8 (a1 + (1 : Int32))).bind fun v6 =>
  (cI K h v6 0 a2).bind fun v7 =>
  some v7
def fX0_seen (K : KE) (h : HS) (a0 : Nat) (a1 : Int32) (a2 : Int32) : Option (Int32) :=
  if a1 = (-1 : Int32) then
    fX0_seen_13 K h a0 a1 a2
  else
  (rcv K h (some a0) 0).bind fun b2 =>
  (fX0_isPerson K h b2 a1).bind fun x3 =>
  if x3 = 0 then
    some (-1 : Int32)
  else
  fX0_seen_13 K h a0 a1 a2
set_option maxHeartbeats 4000000 in
theorem wX0_seen_13 {p : Program} {l : Launch} {e : Env} {s : State} {m : MethodId} {args : Array Value} {below : List Frame} {meth : Method} {c : Code} {A : Nat → Prop} {D : va_G} {ac : Nat → ClassId} {K : KE} {h : HS} {a0 : Nat} (S : CallFix p m c cX0_seen 3 s args lw_all RX0) (hr : meth.sig.returnType = some .int) (hlk : meth.locks = false) (hnm : meth.name = "seen") (hG : GK A D ac K s) (hRM : RM K s (rmC 4 61 K h)) {x : Int32} : ∀ (a1 : Int32) (a2 : Int32), fX0_seen_13 K h a0 a1 a2 = some x → cGo p l e (rmC 4 61 K h) s m args below meth c A D ac K (MQ below (cQi A D ac K (h, x)) args s (K.2.2.1 - h.2.1) (K.2.2.2 - h.2.2) A) 3 13 [(0, va_rf (some a0)), (1, .int a1), (2, .int a2)] [] h := by
  obtain ⟨hx, hb, hml, hown, hts⟩ := id S
  intro a1 a2 z H locs hH hS ls hl
  unfold fX0_seen_13 at z
  refine c_aload_n hx hb dX0_seen_13 rfl (lv_at hl 0 rfl) ?_
  refine lv_iload_n hx hb dX0_seen_14 rfl (lv_at hl 2 rfl) ?_
  replace z := ob z
  obtain ⟨b1, zb1, z⟩ := z
  obtain ⟨yb1, zb1⟩ := rcv_e zb1
  replace z := ob z
  obtain ⟨x2, zx2, z⟩ := z
  refine c_calli hH hS hRM (fun _ _ f1 f2 => va_runV (b := b1) (As := [.int a2]) (rest := []) S (metX0_isFilm zx2) (cwV 1 hts (lw_V q1323 q1325 qs39 q167 q1326) rfl rfl rfl (by decide +kernel) ⟨(Nat.le_of_ble_eq_true rfl), (Nat.le_of_ble_eq_true rfl)⟩) (c_preV hG hH hS (ci := 0) rfl zb1) rfl rfl hl.1 (by rw [yb1]; rfl) (lv_room (Nat.le_of_ble_eq_true rfl)) dX0_seen_15 ⟨f1, f2⟩) (fun H locs hH hS => ?_)
  refine lv_if_eq (tgt := 37) hx hb dX0_seen_18 (by decide) (fun c3 => ?_) (fun c3 => ?_)
  · replace z := it c3 z
    refine lv_iconst (v := (-1 : Int32)) hx hb dX0_seen_37 (by decide) ?_
    exact c_iret' S hr hlk rfl hH hS z dX0_seen_38
  replace z := ie c3 z
  refine c_aload_n hx hb dX0_seen_21 rfl (lv_at hl 0 rfl) ?_
  replace z := ob z
  obtain ⟨v4, zv4, z⟩ := z
  obtain ⟨fsv4, yv4, zv4⟩ := gR_e zv4
  refine c_get S hG hH (ci := 0) (k := 9) rfl in_X0 (Nat.le_of_ble_eq_true rfl) q489 (fun _ y => y) yv4 zv4 dX0_seen_22 ?_
  replace z := ob z
  obtain ⟨v5, zv5, z⟩ := z
  obtain ⟨fsv5, yv5, zv5⟩ := gR_e zv5
  refine c_getN S hG hH (ci := 5) (k := 4) rfl in_X5 (Nat.le_of_ble_eq_true rfl) q438 (fun _ y => y) yv5 zv5 dX0_seen_25 ?_
  refine lv_iload_n hx hb dX0_seen_28 rfl (lv_at hl 1 rfl) ?_
  refine lv_iconst (v := (1 : Int32)) hx hb dX0_seen_29 (by decide) ?_
  refine lv_iadd hx hb dX0_seen_30 ?_
  replace z := ob z
  obtain ⟨v6, zv6, z⟩ := z
  refine c_aald S hG hH 8 rfl rfl zv6 dX0_seen_31 ?_
  refine lv_iload_n hx hb dX0_seen_32 rfl (lv_at hl 2 rfl) ?_
  replace z := ob z
  obtain ⟨v7, zv7, z⟩ := z
  refine c_iald S hG hH zv7 dX0_seen_33 ?_
  refine lv_goto (tgt := 38) hx hb dX0_seen_34 (by decide) ?_
  exact c_iret' S hr hlk rfl hH hS z dX0_seen_38
set_option maxHeartbeats 4000000 in
theorem metX0_seen {l : Launch} {A : Nat → Prop} {D : va_G} {ac : Nat → ClassId} {K : KE} {h : HS} {a0 : Nat} {a1 : Int32} {a2 : Int32} {x : Int32} (z : fX0_seen K h a0 a1 a2 = some x) : Met l yX0_seen (ws_ yX0_seen cX0_seen 3 (some .int)) (rmC 4 61 K h) (cP A D ac K h [va_rf (some a0), .int a1, .int a2]) (cQi A D ac K (h, x)) (K.2.2.1 - h.2.1) (K.2.2.2 - h.2.2) A := by
  refine c_entry (plainFor_of_name (by decide)) (Nat.le_of_ble_eq_true rfl) ?_
  intro p e s m below meth c S hr hlk hnm hG hRM hH hS ls hl
  replace hl : lv_has ls 3 [(0, va_rf (some a0)), (1, .int a1), (2, .int a2)] := hl
  replace hnm : meth.name = "seen" := hnm
  replace S : CallFix p m c cX0_seen 3 s _ lw_all RX0 := S
  obtain ⟨hx, hb, hml, hown, hts⟩ := id S
  unfold fX0_seen at z
  refine lv_iload_n hx hb dX0_seen_0 rfl (lv_at hl 1 rfl) ?_
  refine lv_iconst (v := (-1 : Int32)) hx hb dX0_seen_1 (by decide) ?_
  refine lv_icmp_eq (tgt := 13) hx hb dX0_seen_2 (by decide) (fun c1 => ?_) (fun c1 => ?_)
  · replace z := it c1 z
    exact wX0_seen_13 S hr hlk hnm hG hRM a1 a2 z _ _ hH hS _ (lv_sub hl [0, 1, 2] rfl)
  replace z := ie c1 z
  refine c_aload_n hx hb dX0_seen_5 rfl (lv_at hl 0 rfl) ?_
  refine lv_iload_n hx hb dX0_seen_6 rfl (lv_at hl 1 rfl) ?_
  replace z := ob z
  obtain ⟨b2, zb2, z⟩ := z
  obtain ⟨yb2, zb2⟩ := rcv_e zb2
  replace z := ob z
  obtain ⟨x3, zx3, z⟩ := z
  refine c_calli hH hS hRM (fun _ _ f1 f2 => va_runV (b := b2) (As := [.int a1]) (rest := []) S (metX0_isPerson zx3) (cwV 1 hts (lw_V q1340 q1342 qs42 q167 q1343) rfl rfl rfl (by decide +kernel) ⟨(Nat.le_of_ble_eq_true rfl), (Nat.le_of_ble_eq_true rfl)⟩) (c_preV hG hH hS (ci := 0) rfl zb2) rfl rfl hl.1 (by rw [yb2]; rfl) (lv_room (Nat.le_of_ble_eq_true rfl)) dX0_seen_7 ⟨f1, f2⟩) (fun H locs hH hS => ?_)
  refine lv_if_eq (tgt := 37) hx hb dX0_seen_10 (by decide) (fun c4 => ?_) (fun c4 => ?_)
  rotate_left 1
  · replace z := ie c4 z
    exact wX0_seen_13 S hr hlk hnm hG hRM a1 a2 z _ _ hH hS _ (lv_sub hl [0, 1, 2] rfl)
  replace z := it c4 z
  refine lv_iconst (v := (-1 : Int32)) hx hb dX0_seen_37 (by decide) ?_
  exact c_iret' S hr hlk rfl hH hS z dX0_seen_38

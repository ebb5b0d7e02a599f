set_option maxRecDepth 100000
/-! java/lang/StringBuilder.charAt(I)C -/
def fJ15_charAt (K : KE) (h : HS) (a0 : Nat) (a1 : Int32) : Option (Int32) :=
  (rcv K h (some a0) 21).bind fun b1 =>
  (fJ14_charAt K h b1 a1).bind fun x2 =>
  (cr x2).bind fun g3 =>
  some x2
set_option maxHeartbeats 4000000 in
theorem metJ15_charAt {l : Launch} {A : Nat → Prop} {D : va_G} {ac : Nat → ClassId} {K : KE} {h : HS} {a0 : Nat} {a1 : Int32} {x : Int32} (z : fJ15_charAt K h a0 a1 = some x) : Met l yJ15_charAt (ws_ yJ15_charAt cJ15_charAt 2 (some .char)) (rmC 4 67 K h) (cP A D ac K h [va_rf (some a0), .int a1]) (cQi A D ac K (h, x)) (K.2.2.1 - h.2.1) (K.2.2.2 - h.2.2) A := by
  refine c_entry (plainFor_of_name (by decide)) (Nat.le_of_ble_eq_true rfl) ?_
  intro p e s m below meth c S hr hlk hnm hG hRM hH hS ls hl
  replace hl : lv_has ls 2 [(0, va_rf (some a0)), (1, .int a1)] := hl
  replace hnm : meth.name = "charAt" := hnm
  replace S : CallFix p m c cJ15_charAt 2 s _ lw_all RJ15 := S
  obtain ⟨hx, hb, hml, hown, hts⟩ := id S
  unfold fJ15_charAt at z
  refine c_aload_n hx hb dJ15_charAt_0 rfl (lv_at hl 0 rfl) ?_
  refine lv_iload_n hx hb dJ15_charAt_1 rfl (lv_at hl 1 rfl) ?_
  replace z := ob z
  obtain ⟨b1, zb1, z⟩ := z
  obtain ⟨yb1, zb1⟩ := rcv_e zb1
  replace z := ob z
  obtain ⟨x2, zx2, z⟩ := z
  refine c_calli hH hS hRM (fun _ _ f1 f2 => va_runSU (b := b1) (As := [.int a1]) (rest := []) (hG.1.1 21 _ rfl).2 S (metJ14_charAt zx2) (va_cwSU 1 hts (lw_app (lw_l5 q1449 q2633 q1029 q1450 q194) (lw_meth q1451)) rfl rfl rfl (by decide +kernel) ⟨(Nat.le_of_ble_eq_true rfl), (Nat.le_of_ble_eq_true rfl)⟩) (c_preV hG hH hS (ci := 21) rfl zb1) rfl rfl hl.1 (by rw [yb1]; rfl) (lv_room (Nat.le_of_ble_eq_true rfl)) dJ15_charAt_2 ⟨f1, f2⟩) (fun H locs hH hS => ?_)
  replace z := ob z
  obtain ⟨g3, zg3, z⟩ := z
  replace zg3 := cr_e zg3
  exact c_iret' S hr hlk zg3 hH hS z dJ15_charAt_5
/-! java/lang/Integer.bitCount(I)I -/
def fJ16_bitCount (K : KE) (h : HS) (a0 : Int32) : Option (Int32) :=
  some ((((((((a0 - (((a0.toUInt32 >>> ((1 : Int32).toUInt32 &&& Int32.toUInt32 31)).toInt32) &&& (1431655765 : Int32))) &&& (858993459 : Int32)) + ((((a0 - (((a0.toUInt32 >>> ((1 : Int32).toUInt32 &&& Int32.toUInt32 31)).toInt32) &&& (1431655765 : Int32))).toUInt32 >>> ((2 : Int32).toUInt32 &&& Int32.toUInt32 31)).toInt32) &&& (858993459 : Int32))) + (((((a0 - (((a0.toUInt32 >>> ((1 : Int32).toUInt32 &&& Int32.toUInt32 31)).toInt32) &&& (1431655765 : Int32))) &&& (858993459 : Int32)) + ((((a0 - (((a0.toUInt32 >>> ((1 : Int32).toUInt32 &&& Int32.toUInt32 31)).toInt32) &&& (1431655765 : Int32))).toUInt32 >>> ((2 : Int32).toUInt32 &&& Int32.toUInt32 31)).toInt32) &&& (858993459 : Int32))).toUInt32 >>> ((4 : Int32).toUInt32 &&& Int32.toUInt32 31)).toInt32)) &&& (252645135 : Int32)) + (((((((a0 - (((a0.toUInt32 >>> ((1 : Int32).toUInt32 &&& Int32.toUInt32 31)).toInt32) &&& (1431655765 : Int32))) &&& (858993459 : Int32)) + ((((a0 - (((a0.toUInt32 >>> ((1 : Int32).toUInt32 &&& Int32.toUInt32 31)).toInt32) &&& (1431655765 : Int32))).toUInt32 >>> ((2 : Int32).toUInt32 &&& Int32.toUInt32 31)).toInt32) &&& (858993459 : Int32))) + (((((a0 - (((a0.toUInt32 >>> ((1 : Int32).toUInt32 &&& Int32.toUInt32 31)).toInt32) &&& (1431655765 : Int32))) &&& (858993459 : Int32)) + ((((a0 - (((a0.toUInt32 >>> ((1 : Int32).toUInt32 &&& Int32.toUInt32 31)).toInt32) &&& (1431655765 : Int32))).toUInt32 >>> ((2 : Int32).toUInt32 &&& Int32.toUInt32 31)).toInt32) &&& (858993459 : Int32))).toUInt32 >>> ((4 : Int32).toUInt32 &&& Int32.toUInt32 31)).toInt32)) &&& (252645135 : Int32)).toUInt32 >>> ((8 : Int32).toUInt32 &&& Int32.toUInt32 31)).toInt32)) + ((((((((a0 - (((a0.toUInt32 >>> ((1 : Int32).toUInt32 &&& Int32.toUInt32 31)).toInt32) &&& (1431655765 : Int32))) &&& (858993459 : Int32)) + ((((a0 - (((a0.toUInt32 >>> ((1 : Int32).toUInt32 &&& Int32.toUInt32 31)).toInt32) &&& (1431655765 : Int32))).toUInt32 >>> ((2 : Int32).toUInt32 &&& Int32.toUInt32 31)).toInt32) &&& (858993459 : Int32))) + (((((a0 - (((a0.toUInt32 >>> ((1 : Int32).toUInt32 &&& Int32.toUInt32 31)).toInt32) &&& (1431655765 : Int32))) &&& (858993459 : Int32)) + ((((a0 - (((a0.toUInt32 >>> ((1 : Int32).toUInt32 &&& Int32.toUInt32 31)).toInt32) &&& (1431655765 : Int32))).toUInt32 >>> ((2 : Int32).toUInt32 &&& Int32.toUInt32 31)).toInt32) &&& (858993459 : Int32))).toUInt32 >>> ((4 : Int32).toUInt32 &&& Int32.toUInt32 31)).toInt32)) &&& (252645135 : Int32)) + (((((((a0 - (((a0.toUInt32 >>> ((1 : Int32).toUInt32 &&& Int32.toUInt32 31)).toInt32) &&& (1431655765 : Int32))) &&& (858993459 : Int32)) + ((((a0 - (((a0.toUInt32 >>> ((1 : Int32).toUInt32 &&& Int32.toUInt32 31)).toInt32) &&& (1431655765 : Int32))).toUInt32 >>> ((2 : Int32).toUInt32 &&& Int32.toUInt32 31)).toInt32) &&& (858993459 : Int32))) + (((((a0 - (((a0.toUInt32 >>> ((1 : Int32).toUInt32 &&& Int32.toUInt32 31)).toInt32) &&& (1431655765 : Int32))) &&& (858993459 : Int32)) + ((((a0 - (((a0.toUInt32 >>> ((1 : Int32).toUInt32 &&& Int32.toUInt32 31)).toInt32) &&& (1431655765 : Int32))).toUInt32 >>> ((2 : Int32).toUInt32 &&& Int32.toUInt32 31)).toInt32) &&& (858993459 : Int32))).toUInt32 >>> ((4 : Int32).toUInt32 &&& Int32.toUInt32 31)).toInt32)) &&& (252645135 : Int32)).toUInt32 >>> ((8 : Int32).toUInt32 &&& Int32.toUInt32 31)).toInt32)).toUInt32 >>> ((16 : Int32).toUInt32 &&& Int32.toUInt32 31)).toInt32)) &&& (63 : Int32))
set_option maxHeartbeats 4000000 in
theorem metJ16_bitCount {l : Launch} {A : Nat → Prop} {D : va_G} {ac : Nat → ClassId} {K : KE} {h : HS} {a0 : Int32} {x : Int32} (z : fJ16_bitCount K h a0 = some x) : Met l yJ16_bitCount (ws_ yJ16_bitCount cJ16_bitCount 1 (some .int)) (rmC 1 0 K h) (cP A D ac K h [.int a0]) (cQi A D ac K (h, x)) (K.2.2.1 - h.2.1) (K.2.2.2 - h.2.2) A := by
  refine c_entry (plainFor_of_name (by decide)) (Nat.le_of_ble_eq_true rfl) ?_
  intro p e s m below meth c S hr hlk hnm hG hRM hH hS ls hl
  replace hl : lv_has ls 1 [(0, .int a0)] := hl
  replace hnm : meth.name = "bitCount" := hnm
  replace S : CallFix p m c cJ16_bitCount 1 s _ lw_all RJ16 := S
  obtain ⟨hx, hb, hml, hown, hts⟩ := id S
  unfold fJ16_bitCount at z
  refine lv_iload_n hx hb dJ16_bitCount_0 rfl (lv_at hl 0 rfl) ?_
  refine lv_iload_n hx hb dJ16_bitCount_1 rfl (lv_at hl 0 rfl) ?_
  refine lv_iconst (v := (1 : Int32)) hx hb dJ16_bitCount_2 (by decide) ?_
  refine lv_iushr (v := ((a0.toUInt32 >>> ((1 : Int32).toUInt32 &&& Int32.toUInt32 31)).toInt32)) hx hb dJ16_bitCount_3 rfl ?_
  refine lv_ldcw hx hb hown (hts _ q1285) dJ16_bitCount_4 ?_
  refine lv_iand hx hb dJ16_bitCount_7 ?_
  refine lv_isub hx hb dJ16_bitCount_8 ?_
  refine lv_istore_n (lv' := [(0, .int (a0 - (((a0.toUInt32 >>> ((1 : Int32).toUInt32 &&& Int32.toUInt32 31)).toInt32) &&& (1431655765 : Int32))))]) hx hb dJ16_bitCount_9 rfl hl (by decide) rfl (fun ls hl => ?_)
  refine lv_iload_n hx hb dJ16_bitCount_10 rfl (lv_at hl 0 rfl) ?_
  refine lv_ldcw hx hb hown (hts _ q1286) dJ16_bitCount_11 ?_
  refine lv_iand hx hb dJ16_bitCount_14 ?_
  refine lv_iload_n hx hb dJ16_bitCount_15 rfl (lv_at hl 0 rfl) ?_
  refine lv_iconst (v := (2 : Int32)) hx hb dJ16_bitCount_16 (by decide) ?_
  refine lv_iushr (v := (((a0 - (((a0.toUInt32 >>> ((1 : Int32).toUInt32 &&& Int32.toUInt32 31)).toInt32) &&& (1431655765 : Int32))).toUInt32 >>> ((2 : Int32).toUInt32 &&& Int32.toUInt32 31)).toInt32)) hx hb dJ16_bitCount_17 rfl ?_
  refine lv_ldcw hx hb hown (hts _ q1286) dJ16_bitCount_18 ?_
  refine lv_iand hx hb dJ16_bitCount_21 ?_
  refine lv_iadd hx hb dJ16_bitCount_22 ?_
  refine lv_istore_n (lv' := [(0, .int (((a0 - (((a0.toUInt32 >>> ((1 : Int32).toUInt32 &&& Int32.toUInt32 31)).toInt32) &&& (1431655765 : Int32))) &&& (858993459 : Int32)) + ((((a0 - (((a0.toUInt32 >>> ((1 : Int32).toUInt32 &&& Int32.toUInt32 31)).toInt32) &&& (1431655765 : Int32))).toUInt32 >>> ((2 : Int32).toUInt32 &&& Int32.toUInt32 31)).toInt32) &&& (858993459 : Int32))))]) hx hb dJ16_bitCount_23 rfl hl (by decide) rfl (fun ls hl => ?_)
  refine lv_iload_n hx hb dJ16_bitCount_24 rfl (lv_at hl 0 rfl) ?_
  refine lv_iload_n hx hb dJ16_bitCount_25 rfl (lv_at hl 0 rfl) ?_
  refine lv_iconst (v := (4 : Int32)) hx hb dJ16_bitCount_26 (by decide) ?_
  refine lv_iushr (v := (((((a0 - (((a0.toUInt32 >>> ((1 : Int32).toUInt32 &&& Int32.toUInt32 31)).toInt32) &&& (1431655765 : Int32))) &&& (858993459 : Int32)) + ((((a0 - (((a0.toUInt32 >>> ((1 : Int32).toUInt32 &&& Int32.toUInt32 31)).toInt32) &&& (1431655765 : Int32))).toUInt32 >>> ((2 : Int32).toUInt32 &&& Int32.toUInt32 31)).toInt32) &&& (858993459 : Int32))).toUInt32 >>> ((4 : Int32).toUInt32 &&& Int32.toUInt32 31)).toInt32)) hx hb dJ16_bitCount_27 rfl ?_
  refine lv_iadd hx hb dJ16_bitCount_28 ?_
  refine lv_ldcw hx hb hown (hts _ q1287) dJ16_bitCount_29 ?_
  refine lv_iand hx hb dJ16_bitCount_32 ?_
  refine lv_istore_n (lv' := [(0, .int (((((a0 - (((a0.toUInt32 >>> ((1 : Int32).toUInt32 &&& Int32.toUInt32 31)).toInt32) &&& (1431655765 : Int32))) &&& (858993459 : Int32)) + ((((a0 - (((a0.toUInt32 >>> ((1 : Int32).toUInt32 &&& Int32.toUInt32 31)).toInt32) &&& (1431655765 : Int32))).toUInt32 >>> ((2 : Int32).toUInt32 &&& Int32.toUInt32 31)).toInt32) &&& (858993459 : Int32))) + (((((a0 - (((a0.toUInt32 >>> ((1 : Int32).toUInt32 &&& Int32.toUInt32 31)).toInt32) &&& (1431655765 : Int32))) &&& (858993459 : Int32)) + ((((a0 - (((a0.toUInt32 >>> ((1 : Int32).toUInt32 &&& Int32.toUInt32 31)).toInt32) &&& (1431655765 : Int32))).toUInt32 >>> ((2 : Int32).toUInt32 &&& Int32.toUInt32 31)).toInt32) &&& (858993459 : Int32))).toUInt32 >>> ((4 : Int32).toUInt32 &&& Int32.toUInt32 31)).toInt32)) &&& (252645135 : Int32)))]) hx hb dJ16_bitCount_33 rfl hl (by decide) rfl (fun ls hl => ?_)
  refine lv_iload_n hx hb dJ16_bitCount_34 rfl (lv_at hl 0 rfl) ?_
  refine lv_iload_n hx hb dJ16_bitCount_35 rfl (lv_at hl 0 rfl) ?_
  refine lv_bipush (v := (8 : Int32)) hx hb dJ16_bitCount_36 (by decide) ?_
  refine lv_iushr (v := (((((((a0 - (((a0.toUInt32 >>> ((1 : Int32).toUInt32 &&& Int32.toUInt32 31)).toInt32) &&& (1431655765 : Int32))) &&& (858993459 : Int32)) + ((((a0 - (((a0.toUInt32 >>> ((1 : Int32).toUInt32 &&& Int32.toUInt32 31)).toInt32) &&& (1431655765 : Int32))).toUInt32 >>> ((2 : Int32).toUInt32 &&& Int32.toUInt32 31)).toInt32) &&& (858993459 : Int32))) + (((((a0 - (((a0.toUInt32 >>> ((1 : Int32).toUInt32 &&& Int32.toUInt32 31)).toInt32) &&& (1431655765 : Int32))) &&& (858993459 : Int32)) + ((((a0 - (((a0.toUInt32 >>> ((1 : Int32).toUInt32 &&& Int32.toUInt32 31)).toInt32) &&& (1431655765 : Int32))).toUInt32 >>> ((2 : Int32).toUInt32 &&& Int32.toUInt32 31)).toInt32) &&& (858993459 : Int32))).toUInt32 >>> ((4 : Int32).toUInt32 &&& Int32.toUInt32 31)).toInt32)) &&& (252645135 : Int32)).toUInt32 >>> ((8 : Int32).toUInt32 &&& Int32.toUInt32 31)).toInt32)) hx hb dJ16_bitCount_38 rfl ?_
  refine lv_iadd hx hb dJ16_bitCount_39 ?_
  refine lv_istore_n (lv' := [(0, .int ((((((a0 - (((a0.toUInt32 >>> ((1 : Int32).toUInt32 &&& Int32.toUInt32 31)).toInt32) &&& (1431655765 : Int32))) &&& (858993459 : Int32)) + ((((a0 - (((a0.toUInt32 >>> ((1 : Int32).toUInt32 &&& Int32.toUInt32 31)).toInt32) &&& (1431655765 : Int32))).toUInt32 >>> ((2 : Int32).toUInt32 &&& Int32.toUInt32 31)).toInt32) &&& (858993459 : Int32))) + (((((a0 - (((a0.toUInt32 >>> ((1 : Int32).toUInt32 &&& Int32.toUInt32 31)).toInt32) &&& (1431655765 : Int32))) &&& (858993459 : Int32)) + ((((a0 - (((a0.toUInt32 >>> ((1 : Int32).toUInt32 &&& Int32.toUInt32 31)).toInt32) &&& (1431655765 : Int32))).toUInt32 >>> ((2 : Int32).toUInt32 &&& Int32.toUInt32 31)).toInt32) &&& (858993459 : Int32))).toUInt32 >>> ((4 : Int32).toUInt32 &&& Int32.toUInt32 31)).toInt32)) &&& (252645135 : Int32)) + (((((((a0 - (((a0.toUInt32 >>> ((1 : Int32).toUInt32 &&& Int32.toUInt32 31)).toInt32) &&& (1431655765 : Int32))) &&& (858993459 : Int32)) + ((((a0 - (((a0.toUInt32 >>> ((1 : Int32).toUInt32 &&& Int32.toUInt32 31)).toInt32) &&& (1431655765 : Int32))).toUInt32 >>> ((2 : Int32).toUInt32 &&& Int32.toUInt32 31)).toInt32) &&& (858993459 : Int32))) + (((((a0 - (((a0.toUInt32 >>> ((1 : Int32).toUInt32 &&& Int32.toUInt32 31)).toInt32) &&& (1431655765 : Int32))) &&& (858993459 : Int32)) + ((((a0 - (((a0.toUInt32 >>> ((1 : Int32).toUInt32 &&& Int32.toUInt32 31)).toInt32) &&& (1431655765 : Int32))).toUInt32 >>> ((2 : Int32).toUInt32 &&& Int32.toUInt32 31)).toInt32) &&& (858993459 : Int32))).toUInt32 >>> ((4 : Int32).toUInt32 &&& Int32.toUInt32 31)).toInt32)) &&& (252645135 : Int32)).toUInt32 >>> ((8 : Int32).toUInt32 &&& Int32.toUInt32 31)).toInt32)))]) hx hb dJ16_bitCount_40 rfl hl (by decide) rfl (fun ls hl => ?_)
  refine lv_iload_n hx hb dJ16_bitCount_41 rfl (lv_at hl 0 rfl) ?_
  refine lv_iload_n hx hb dJ16_bitCount_42 rfl (lv_at hl 0 rfl) ?_
  refine lv_bipush (v := (16 : Int32)) hx hb dJ16_bitCount_43 (by decide) ?_
  refine lv_iushr (v := ((((((((a0 - (((a0.toUInt32 >>> ((1 : Int32).toUInt32 &&& Int32.toUInt32 31)).toInt32) &&& (1431655765 : Int32))) &&& (858993459 : Int32)) + ((((a0 - (((a0.toUInt32 >>> ((1 : Int32).toUInt32 &&& Int32.toUInt32 31)).toInt32) &&& (1431655765 : Int32))).toUInt32 >>> ((2 : Int32).toUInt32 &&& Int32.toUInt32 31)).toInt32) &&& (858993459 : Int32))) + (((((a0 - (((a0.toUInt32 >>> ((1 : Int32).toUInt32 &&& Int32.toUInt32 31)).toInt32) &&& (1431655765 : Int32))) &&& (858993459 : Int32)) + ((((a0 - (((a0.toUInt32 >>> ((1 : Int32).toUInt32 &&& Int32.toUInt32 31)).toInt32) &&& (1431655765 : Int32))).toUInt32 >>> ((2 : Int32).toUInt32 &&& Int32.toUInt32 31)).toInt32) &&& (858993459 : Int32))).toUInt32 >>> ((4 : Int32).toUInt32 &&& Int32.toUInt32 31)).toInt32)) &&& (252645135 : Int32)) + (((((((a0 - (((a0.toUInt32 >>> ((1 : Int32).toUInt32 &&& Int32.toUInt32 31)).toInt32) &&& (1431655765 : Int32))) &&& (858993459 : Int32)) + ((((a0 - (((a0.toUInt32 >>> ((1 : Int32).toUInt32 &&& Int32.toUInt32 31)).toInt32) &&& (1431655765 : Int32))).toUInt32 >>> ((2 : Int32).toUInt32 &&& Int32.toUInt32 31)).toInt32) &&& (858993459 : Int32))) + (((((a0 - (((a0.toUInt32 >>> ((1 : Int32).toUInt32 &&& Int32.toUInt32 31)).toInt32) &&& (1431655765 : Int32))) &&& (858993459 : Int32)) + ((((a0 - (((a0.toUInt32 >>> ((1 : Int32).toUInt32 &&& Int32.toUInt32 31)).toInt32) &&& (1431655765 : Int32))).toUInt32 >>> ((2 : Int32).toUInt32 &&& Int32.toUInt32 31)).toInt32) &&& (858993459 : Int32))).toUInt32 >>> ((4 : Int32).toUInt32 &&& Int32.toUInt32 31)).toInt32)) &&& (252645135 : Int32)).toUInt32 >>> ((8 : Int32).toUInt32 &&& Int32.toUInt32 31)).toInt32)).toUInt32 >>> ((16 : Int32).toUInt32 &&& Int32.toUInt32 31)).toInt32)) hx hb dJ16_bitCount_45 rfl ?_
  refine lv_iadd hx hb dJ16_bitCount_46 ?_
  refine lv_istore_n (lv' := [(0, .int (((((((a0 - (((a0.toUInt32 >>> ((1 : Int32).toUInt32 &&& Int32.toUInt32 31)).toInt32) &&& (1431655765 : Int32))) &&& (858993459 : Int32)) + ((((a0 - (((a0.toUInt32 >>> ((1 : Int32).toUInt32 &&& Int32.toUInt32 31)).toInt32) &&& (1431655765 : Int32))).toUInt32 >>> ((2 : Int32).toUInt32 &&& Int32.toUInt32 31)).toInt32) &&& (858993459 : Int32))) + (((((a0 - (((a0.toUInt32 >>> ((1 : Int32).toUInt32 &&& Int32.toUInt32 31)).toInt32) &&& (1431655765 : Int32))) &&& (858993459 : Int32)) + ((((a0 - (((a0.toUInt32 >>> ((1 : Int32).toUInt32 &&& Int32.toUInt32 31)).toInt32) &&& (1431655765 : Int32))).toUInt32 >>> ((2 : Int32).toUInt32 &&& Int32.toUInt32 31)).toInt32) &&& (858993459 : Int32))).toUInt32 >>> ((4 : Int32).toUInt32 &&& Int32.toUInt32 31)).toInt32)) &&& (252645135 : Int32)) + (((((((a0 - (((a0.toUInt32 >>> ((1 : Int32).toUInt32 &&& Int32.toUInt32 31)).toInt32) &&& (1431655765 : Int32))) &&& (858993459 : Int32)) + ((((a0 - (((a0.toUInt32 >>> ((1 : Int32).toUInt32 &&& Int32.toUInt32 31)).toInt32) &&& (1431655765 : Int32))).toUInt32 >>> ((2 : Int32).toUInt32 &&& Int32.toUInt32 31)).toInt32) &&& (858993459 : Int32))) + (((((a0 - (((a0.toUInt32 >>> ((1 : Int32).toUInt32 &&& Int32.toUInt32 31)).toInt32) &&& (1431655765 : Int32))) &&& (858993459 : Int32)) + ((((a0 - (((a0.toUInt32 >>> ((1 : Int32).toUInt32 &&& Int32.toUInt32 31)).toInt32) &&& (1431655765 : Int32))).toUInt32 >>> ((2 : Int32).toUInt32 &&& Int32.toUInt32 31)).toInt32) &&& (858993459 : Int32))).toUInt32 >>> ((4 : Int32).toUInt32 &&& Int32.toUInt32 31)).toInt32)) &&& (252645135 : Int32)).toUInt32 >>> ((8 : Int32).toUInt32 &&& Int32.toUInt32 31)).toInt32)) + ((((((((a0 - (((a0.toUInt32 >>> ((1 : Int32).toUInt32 &&& Int32.toUInt32 31)).toInt32) &&& (1431655765 : Int32))) &&& (858993459 : Int32)) + ((((a0 - (((a0.toUInt32 >>> ((1 : Int32).toUInt32 &&& Int32.toUInt32 31)).toInt32) &&& (1431655765 : Int32))).toUInt32 >>> ((2 : Int32).toUInt32 &&& Int32.toUInt32 31)).toInt32) &&& (858993459 : Int32))) + (((((a0 - (((a0.toUInt32 >>> ((1 : Int32).toUInt32 &&& Int32.toUInt32 31)).toInt32) &&& (1431655765 : Int32))) &&& (858993459 : Int32)) + ((((a0 - (((a0.toUInt32 >>> ((1 : Int32).toUInt32 &&& Int32.toUInt32 31)).toInt32) &&& (1431655765 : Int32))).toUInt32 >>> ((2 : Int32).toUInt32 &&& Int32.toUInt32 31)).toInt32) &&& (858993459 : Int32))).toUInt32 >>> ((4 : Int32).toUInt32 &&& Int32.toUInt32 31)).toInt32)) &&& (252645135 : Int32)) + (((((((a0 - (((a0.toUInt32 >>> ((1 : Int32).toUInt32 &&& Int32.toUInt32 31)).toInt32) &&& (1431655765 : Int32))) &&& (858993459 : Int32)) + ((((a0 - (((a0.toUInt32 >>> ((1 : Int32).toUInt32 &&& Int32.toUInt32 31)).toInt32) &&& (1431655765 : Int32))).toUInt32 >>> ((2 : Int32).toUInt32 &&& Int32.toUInt32 31)).toInt32) &&& (858993459 : Int32))) + (((((a0 - (((a0.toUInt32 >>> ((1 : Int32).toUInt32 &&& Int32.toUInt32 31)).toInt32) &&& (1431655765 : Int32))) &&& (858993459 : Int32)) + ((((a0 - (((a0.toUInt32 >>> ((1 : Int32).toUInt32 &&& Int32.toUInt32 31)).toInt32) &&& (1431655765 : Int32))).toUInt32 >>> ((2 : Int32).toUInt32 &&& Int32.toUInt32 31)).toInt32) &&& (858993459 : Int32))).toUInt32 >>> ((4 : Int32).toUInt32 &&& Int32.toUInt32 31)).toInt32)) &&& (252645135 : Int32)).toUInt32 >>> ((8 : Int32).toUInt32 &&& Int32.toUInt32 31)).toInt32)).toUInt32 >>> ((16 : Int32).toUInt32 &&& Int32.toUInt32 31)).toInt32)))]) hx hb dJ16_bitCount_47 rfl hl (by decide) rfl (fun ls hl => ?_)
  refine lv_iload_n hx hb dJ16_bitCount_48 rfl (lv_at hl 0 rfl) ?_
  refine lv_bipush (v := (63 : Int32)) hx hb dJ16_bitCount_49 (by decide) ?_
  refine lv_iand hx hb dJ16_bitCount_51 ?_
  exact c_iret' S hr hlk rfl hH hS z dJ16_bitCount_52
/-! java/util/ArrayList.<init>(I)V -/
def fJ2_init (K : KE) (h : HS) (a0 : Nat) (a1 : Int32) : Option (HS) :=
  (fJ1_init K h a0).bind fun x1 =>
  if a1 ≤ 0 then
    if a1 = 0 then
      none
    else
    none
  else
  (nA K x1 5 (.inr (.inr (.inr (.inr (fun _ => none))))) a1).bind fun h4 =>
  (pV h4 (some a0) 19 1 (va_rf (some x1.2.1))).bind fun h5 =>
  some h5
set_option maxHeartbeats 4000000 in
theorem metJ2_init {l : Launch} {A : Nat → Prop} {D : va_G} {ac : Nat → ClassId} {K : KE} {h : HS} {a0 : Nat} {a1 : Int32} {x : HS} (z : fJ2_init K h a0 a1 = some x) : Met l yJ2_init (ws_ yJ2_init cJ2_init 2 (none)) (rmC 4 80 K h) (cP A D ac K h [va_rf (some a0), .int a1]) (cQv A D ac K x) (K.2.2.1 - h.2.1) (K.2.2.2 - h.2.2) A := by
  refine c_entry (plainFor_of_name (by decide)) (Nat.le_of_ble_eq_true rfl) ?_
  intro p e s m below meth c S hr hlk hnm hG hRM hH hS ls hl
  replace hl : lv_has ls 2 [(0, va_rf (some a0)), (1, .int a1)] := hl
  replace hnm : meth.name = "<init>" := hnm
  replace S : CallFix p m c cJ2_init 2 s _ lw_all RJ2 := S
  obtain ⟨hx, hb, hml, hown, hts⟩ := id S
  unfold fJ2_init at z
  refine c_aload_n hx hb dJ2_init_0 rfl (lv_at hl 0 rfl) ?_
  replace z := ob z
  obtain ⟨x1, zx1, z⟩ := z
  refine c_callv hH hS hRM (fun _ _ f1 f2 => va_runI (b := a0) (As := []) (rest := []) S (metJ1_init zx1) (cwI 0 hts (lw_meth q228) rfl rfl rfl (hts _ q170) (hts _ q226) (hts _ q227) rfl (by decide +kernel) ⟨(Nat.le_of_ble_eq_true rfl), (Nat.le_of_ble_eq_true rfl)⟩) (c_pre hG hH hS) rfl rfl hl.1 rfl (lv_room (Nat.le_of_ble_eq_true rfl)) dJ2_init_1 ⟨f1, f2⟩) (fun H locs hH hS => ?_)
  refine lv_iload_n hx hb dJ2_init_4 rfl (lv_at hl 1 rfl) ?_
  refine lv_if_le (tgt := 19) hx hb dJ2_init_5 (by decide) (fun c2 => ?_) (fun c2 => ?_)
  · replace z := it c2 z
    refine lv_iload_n hx hb dJ2_init_19 rfl (lv_at hl 1 rfl) ?_
    refine lv_if_ne (tgt := 33) hx hb dJ2_init_20 (by decide) (fun c3 => ?_) (fun c3 => ?_)
    · replace z := ie c3 z
      cases z
    replace z := it c3 z
    refine c_aload_n hx hb dJ2_init_23 rfl (lv_at hl 0 rfl) ?_
    cases z
  replace z := ie c2 z
  refine c_aload_n hx hb dJ2_init_8 rfl (lv_at hl 0 rfl) ?_
  refine lv_iload_n hx hb dJ2_init_9 rfl (lv_at hl 1 rfl) ?_
  replace z := ob z
  obtain ⟨h4, zh4, z⟩ := z
  refine c_anew S hG hH hS hRM 5 rfl q233 q234 zh4 dJ2_init_10 (fun H locs hH hS => ?_)
  replace z := ob z
  obtain ⟨h5, zh5, z⟩ := z
  refine c_put S hG hH hS (ci := 19) (k := 1) rfl in_J2 tyJ2 tyJ2_ok nmJ2 (Nat.le_of_ble_eq_true rfl) q237 (fun _ y => y) rfl (ty := .array (.object "java/lang/Object")) rfl (nr_a _) (ft_a _) zh5 dJ2_init_13 (fun H locs hH hS => ?_)
  refine lv_goto (tgt := 60) hx hb dJ2_init_16 (by decide) ?_
  exact c_vret S hr hlk hH hS z dJ2_init_60
/-! java/util/ArrayList.size()I -/
def fJ2_size (K : KE) (h : HS) (a0 : Nat) : Option (Int32) :=
  (gI K h (some a0) 19 2).bind fun v1 =>
  some v1
set_option maxHeartbeats 4000000 in
theorem metJ2_size {l : Launch} {A : Nat → Prop} {D : va_G} {ac : Nat → ClassId} {K : KE} {h : HS} {a0 : Nat} {x : Int32} (z : fJ2_size K h a0 = some x) : Met l yJ2_size (ws_ yJ2_size cJ2_size 1 (some .int)) (rmC 1 0 K h) (cP A D ac K h [va_rf (some a0)]) (cQi A D ac K (h, x)) (K.2.2.1 - h.2.1) (K.2.2.2 - h.2.2) A := by
  refine c_entry (plainFor_of_name (by decide)) (Nat.le_of_ble_eq_true rfl) ?_
  intro p e s m below meth c S hr hlk hnm hG hRM hH hS ls hl
  replace hl : lv_has ls 1 [(0, va_rf (some a0))] := hl
  replace hnm : meth.name = "size" := hnm
  replace S : CallFix p m c cJ2_size 1 s _ lw_all RJ2 := S
  obtain ⟨hx, hb, hml, hown, hts⟩ := id S
  unfold fJ2_size at z
  refine c_aload_n hx hb dJ2_size_0 rfl (lv_at hl 0 rfl) ?_
  replace z := ob z
  obtain ⟨v1, zv1, z⟩ := z
  obtain ⟨fsv1, yv1, zv1⟩ := gI_e zv1
  refine c_get S hG hH (ci := 19) (k := 2) rfl in_J2 (Nat.le_of_ble_eq_true rfl) q238 (fun _ y => y) yv1 zv1 dJ2_size_1 ?_
  exact c_iret' S hr hlk rfl hH hS z dJ2_size_4
/-! java/util/ArrayList.elementData(I)Ljava/lang/Object; -/
def fJ2_elementData (K : KE) (h : HS) (a0 : Nat) (a1 : Int32) : Option (Option Nat) :=
  (gR K h (some a0) 19 1).bind fun v1 =>
  (cR K h v1 5 a1).bind fun v2 =>
  some v2
set_option maxHeartbeats 4000000 in
theorem metJ2_elementData {l : Launch} {A : Nat → Prop} {D : va_G} {ac : Nat → ClassId} {K : KE} {h : HS} {a0 : Nat} {a1 : Int32} {x : Option Nat} (z : fJ2_elementData K h a0 a1 = some x) : Met l yJ2_elementData (ws_ yJ2_elementData cJ2_elementData 2 (some (.object "java/lang/Object"))) (rmC 1 0 K h) (cP A D ac K h [va_rf (some a0), .int a1]) (cQq A D ac K (h, x)) (K.2.2.1 - h.2.1) (K.2.2.2 - h.2.2) A := by
  refine c_entry (plainFor_of_name (by decide)) (Nat.le_of_ble_eq_true rfl) ?_
  intro p e s m below meth c S hr hlk hnm hG hRM hH hS ls hl
  replace hl : lv_has ls 2 [(0, va_rf (some a0)), (1, .int a1)] := hl
  replace hnm : meth.name = "elementData" := hnm
  replace S : CallFix p m c cJ2_elementData 2 s _ lw_all RJ2 := S
  obtain ⟨hx, hb, hml, hown, hts⟩ := id S
  unfold fJ2_elementData at z
  refine c_aload_n hx hb dJ2_elementData_0 rfl (lv_at hl 0 rfl) ?_
  replace z := ob z
  obtain ⟨v1, zv1, z⟩ := z
  obtain ⟨fsv1, yv1, zv1⟩ := gR_e zv1
  refine c_get S hG hH (ci := 19) (k := 1) rfl in_J2 (Nat.le_of_ble_eq_true rfl) q237 (fun _ y => y) yv1 zv1 dJ2_elementData_1 ?_
  refine lv_iload_n hx hb dJ2_elementData_4 rfl (lv_at hl 1 rfl) ?_
  replace z := ob z
  obtain ⟨v2, zv2, z⟩ := z
  refine c_aald S hG hH 5 rfl rfl zv2 dJ2_elementData_5 ?_
  exact c_aret' S hr (Or.inl ⟨_, rfl⟩) hlk hH hS z dJ2_elementData_6
/-! java/util/ArrayList.get(I)Ljava/lang/Object; -/
def fJ2_get (K : KE) (h : HS) (a0 : Nat) (a1 : Int32) : Option (Option Nat) :=
  (gI K h (some a0) 19 2).bind fun v1 =>
  (fJ11_checkIndex K h a1 v1).bind fun x2 =>
  (rcv K h (some a0) 19).bind fun b3 =>
  (fJ2_elementData K h b3 a1).bind fun x4 =>
  some x4
set_option maxHeartbeats 4000000 in
theorem metJ2_get {l : Launch} {A : Nat → Prop} {D : va_G} {ac : Nat → ClassId} {K : KE} {h : HS} {a0 : Nat} {a1 : Int32} {x : Option Nat} (z : fJ2_get K h a0 a1 = some x) : Met l yJ2_get (ws_ yJ2_get cJ2_get 2 (some (.object "java/lang/Object"))) (rmC 3 43 K h) (cP A D ac K h [va_rf (some a0), .int a1]) (cQq A D ac K (h, x)) (K.2.2.1 - h.2.1) (K.2.2.2 - h.2.2) A := by
  refine c_entry (plainFor_of_name (by decide)) (Nat.le_of_ble_eq_true rfl) ?_
  intro p e s m below meth c S hr hlk hnm hG hRM hH hS ls hl
  replace hl : lv_has ls 2 [(0, va_rf (some a0)), (1, .int a1)] := hl
  replace hnm : meth.name = "get" := hnm
  replace S : CallFix p m c cJ2_get 2 s _ lw_all RJ2 := S
  obtain ⟨hx, hb, hml, hown, hts⟩ := id S
  unfold fJ2_get at z
  refine lv_iload_n hx hb dJ2_get_0 rfl (lv_at hl 1 rfl) ?_
  refine c_aload_n hx hb dJ2_get_1 rfl (lv_at hl 0 rfl) ?_
  replace z := ob z
  obtain ⟨v1, zv1, z⟩ := z
  obtain ⟨fsv1, yv1, zv1⟩ := gI_e zv1
  refine c_get S hG hH (ci := 19) (k := 2) rfl in_J2 (Nat.le_of_ble_eq_true rfl) q238 (fun _ y => y) yv1 zv1 dJ2_get_2 ?_
  replace z := ob z
  obtain ⟨x2, zx2, z⟩ := z
  refine c_calli hH hS hRM (fun _ _ f1 f2 => va_runS (As := [.int a1, .int v1]) (rest := []) S (metJ11_checkIndex zx2) (va_cwS 2 hts (lw_S q808 q809 q186 q810) rfl rfl rfl (by decide +kernel) ⟨(Nat.le_of_ble_eq_true rfl), (Nat.le_of_ble_eq_true rfl)⟩) (c_pre hG hH hS) rfl rfl hl.1 rfl (lv_room (Nat.le_of_ble_eq_true rfl)) dJ2_get_5 ⟨f1, f2⟩) (fun H locs hH hS => ?_)
  refine lv_pop hx hb dJ2_get_8 rfl ?_
  refine c_aload_n hx hb dJ2_get_9 rfl (lv_at hl 0 rfl) ?_
  refine lv_iload_n hx hb dJ2_get_10 rfl (lv_at hl 1 rfl) ?_
  replace z := ob z
  obtain ⟨b3, zb3, z⟩ := z
  obtain ⟨yb3, zb3⟩ := rcv_e zb3
  replace z := ob z
  obtain ⟨x4, zx4, z⟩ := z
  refine c_callq hH hS hRM (fun _ _ f1 f2 => va_runV (b := b3) (As := [.int a1]) (rest := []) S (metJ2_elementData zx4) (cwV 1 hts (lw_V q814 q815 q816 q171 q817) rfl rfl rfl (by decide +kernel) ⟨(Nat.le_of_ble_eq_true rfl), (Nat.le_of_ble_eq_true rfl)⟩) (c_preV hG hH hS (ci := 19) rfl zb3) rfl rfl hl.1 (by rw [yb3]; rfl) (lv_room (Nat.le_of_ble_eq_true rfl)) dJ2_get_11 ⟨f1, f2⟩) (fun H locs hH hS => ?_)
  exact c_aret' S hr (Or.inl ⟨_, rfl⟩) hlk hH hS z dJ2_get_14
/-! java/util/ArrayList.grow(I)[Ljava/lang/Object; -/
def fJ2_grow_2_20 (K : KE) (a0 : Nat) (h : HS) (a1 : Int32) (a2 : Int32) : Option (HS × Option Nat) :=
  (fJ10_newLength K h a2 (a1 - a2) (a2 >>> ((1 : Int32) &&& 31))).bind fun x1 =>
  (gR K h (some a0) 19 1).bind fun v2 =>
  (fJ13_copyOf K h v2 x1).bind fun x3 =>
  (pV x3.1 (some a0) 19 1 (va_rf x3.2)).bind fun h4 =>
  some (h4, x3.2)
def fJ2_grow_2 (K : KE) (h : HS) (a0 : Nat) (a1 : Int32) : Option (HS × Option Nat) :=
  (gR K h (some a0) 19 1).bind fun v1 =>
  (cN K h v1 5).bind fun v2 =>
  if 0 < v2 then
    fJ2_grow_2_20 K a0 h a1 v2
  else
  (gR K h (some a0) 19 1).bind fun v4 =>
  none
set_option maxHeartbeats 4000000 in
theorem wJ2_grow_2_20 {p : Program} {l : Launch} {e : Env} {s : State} {m : MethodId} {args : Array Value} {below : List Frame} {meth : Method} {c : Code} {A : Nat → Prop} {D : va_G} {ac : Nat → ClassId} {K : KE} {h0 : HS} {a0 : Nat} (S : CallFix p m c cJ2_grow_2 4 s args lw_all RJ2) (hr : meth.sig.returnType = some (.array (.object "java/lang/Object"))) (hlk : meth.locks = false) (hnm : meth.name = "grow") (hG : GK A D ac K s) (hRM : RM K s (rmC 4 104 K h0)) {x : HS × Option Nat} : ∀ (h : HS) (a1 : Int32) (a2 : Int32), fJ2_grow_2_20 K a0 h a1 a2 = some x → cGo p l e (rmC 4 104 K h0) s m args below meth c A D ac K (MQ below (cQq A D ac K x) args s (K.2.2.1 - h0.2.1) (K.2.2.2 - h0.2.2) A) 4 20 [(0, va_rf (some a0)), (1, .int a1), (2, .int a2)] [] h := by
  obtain ⟨hx, hb, hml, hown, hts⟩ := id S
  intro h a1 a2 z H locs hH hS ls hl
  unfold fJ2_grow_2_20 at z
  refine lv_iload_n hx hb dJ2_grow_2_20 rfl (lv_at hl 2 rfl) ?_
  refine lv_iload_n hx hb dJ2_grow_2_21 rfl (lv_at hl 1 rfl) ?_
  refine lv_iload_n hx hb dJ2_grow_2_22 rfl (lv_at hl 2 rfl) ?_
  refine lv_isub hx hb dJ2_grow_2_23 ?_
  refine lv_iload_n hx hb dJ2_grow_2_24 rfl (lv_at hl 2 rfl) ?_
  refine lv_iconst (v := (1 : Int32)) hx hb dJ2_grow_2_25 (by decide) ?_
  refine lv_ishr hx hb dJ2_grow_2_26 ?_
  replace z := ob z
  obtain ⟨x1, zx1, z⟩ := z
  refine c_calli hH hS hRM (fun _ _ f1 f2 => va_runS (As := [.int a2, .int (a1 - a2), .int (a2 >>> ((1 : Int32) &&& 31))]) (rest := []) S (metJ10_newLength zx1) (va_cwS 3 hts (lw_S q851 q852 q184 q853) rfl rfl rfl (by decide +kernel) ⟨(Nat.le_of_ble_eq_true rfl), (Nat.le_of_ble_eq_true rfl)⟩) (c_pre hG hH hS) rfl rfl hl.1 rfl (lv_room (Nat.le_of_ble_eq_true rfl)) dJ2_grow_2_27 ⟨f1, f2⟩) (fun H locs hH hS => ?_)
  refine lv_istore_n (lv' := [(3, .int x1), (0, va_rf (some a0)), (1, .int a1), (2, .int a2)]) hx hb dJ2_grow_2_30 rfl hl (by decide) rfl (fun ls hl => ?_)
  refine c_aload_n hx hb dJ2_grow_2_31 rfl (lv_at hl 1 rfl) ?_
  refine c_aload_n hx hb dJ2_grow_2_32 rfl (lv_at hl 1 rfl) ?_
  replace z := ob z
  obtain ⟨v2, zv2, z⟩ := z
  obtain ⟨fsv2, yv2, zv2⟩ := gR_e zv2
  refine c_get S hG hH (ci := 19) (k := 1) rfl in_J2 (Nat.le_of_ble_eq_true rfl) q237 (fun _ y => y) yv2 zv2 dJ2_grow_2_33 ?_
  refine lv_iload_n hx hb dJ2_grow_2_36 rfl (lv_at hl 0 rfl) ?_
  replace z := ob z
  obtain ⟨x3, zx3, z⟩ := z
  refine c_callq hH hS hRM (fun _ _ f1 f2 => va_runS (As := [va_rf v2, .int x1]) (rest := [va_rf (some a0)]) S (metJ13_copyOf zx3) (va_cwS 2 hts (lw_S q861 q862 q188 q863) rfl rfl rfl (by decide +kernel) ⟨(Nat.le_of_ble_eq_true rfl), (Nat.le_of_ble_eq_true rfl)⟩) (c_pre hG hH hS) rfl rfl hl.1 rfl (lv_room (Nat.le_of_ble_eq_true rfl)) dJ2_grow_2_37 ⟨f1, f2⟩) (fun H locs hH hS => ?_)
  refine lv_dup_x1 hx hb dJ2_grow_2_40 (ct_r _) rfl ?_
  replace z := ob z
  obtain ⟨h4, zh4, z⟩ := z
  refine c_put S hG hH hS (ci := 19) (k := 1) rfl in_J2 tyJ2 tyJ2_ok nmJ2 (Nat.le_of_ble_eq_true rfl) q237 (fun _ y => y) rfl (ty := .array (.object "java/lang/Object")) rfl (nr_a _) (ft_a _) zh4 dJ2_grow_2_41 (fun H locs hH hS => ?_)
  exact c_aret S hr (Or.inr ⟨_, rfl⟩) hlk hH hS z dJ2_grow_2_44
set_option maxHeartbeats 4000000 in
theorem metJ2_grow_2 {l : Launch} {A : Nat → Prop} {D : va_G} {ac : Nat → ClassId} {K : KE} {h : HS} {a0 : Nat} {a1 : Int32} {x : HS × Option Nat} (z : fJ2_grow_2 K h a0 a1 = some x) : Met l yJ2_grow_2 (ws_ yJ2_grow_2 cJ2_grow_2 4 (some (.array (.object "java/lang/Object")))) (rmC 4 104 K h) (cP A D ac K h [va_rf (some a0), .int a1]) (cQq A D ac K x) (K.2.2.1 - h.2.1) (K.2.2.2 - h.2.2) A := by
  refine c_entry (plainFor_of_name (by decide)) (Nat.le_of_ble_eq_true rfl) ?_
  intro p e s m below meth c S hr hlk hnm hG hRM hH hS ls hl
  replace hl : lv_has ls 4 [(0, va_rf (some a0)), (1, .int a1)] := hl
  replace hnm : meth.name = "grow" := hnm
  replace S : CallFix p m c cJ2_grow_2 4 s _ lw_all RJ2 := S
  obtain ⟨hx, hb, hml, hown, hts⟩ := id S
  unfold fJ2_grow_2 at z
  refine c_aload_n hx hb dJ2_grow_2_0 rfl (lv_at hl 0 rfl) ?_
  replace z := ob z
  obtain ⟨v1, zv1, z⟩ := z
  obtain ⟨fsv1, yv1, zv1⟩ := gR_e zv1
  refine c_get S hG hH (ci := 19) (k := 1) rfl in_J2 (Nat.le_of_ble_eq_true rfl) q237 (fun _ y => y) yv1 zv1 dJ2_grow_2_1 ?_
  replace z := ob z
  obtain ⟨v2, zv2, z⟩ := z
  refine c_alen S hG hH 5 rfl zv2 dJ2_grow_2_4 ?_
  refine lv_istore_n (lv' := [(2, .int v2), (0, va_rf (some a0)), (1, .int a1)]) hx hb dJ2_grow_2_5 rfl hl (by decide) rfl (fun ls hl => ?_)
  refine lv_iload_n hx hb dJ2_grow_2_6 rfl (lv_at hl 0 rfl) ?_
  refine lv_if_gt (tgt := 20) hx hb dJ2_grow_2_7 (by decide) (fun c3 => ?_) (fun c3 => ?_)
  · replace z := it c3 z
    exact wJ2_grow_2_20 S hr hlk hnm hG hRM h a1 v2 z _ _ hH hS _ (lv_sub hl [1, 2, 0] rfl)
  replace z := ie c3 z
  refine c_aload_n hx hb dJ2_grow_2_10 rfl (lv_at hl 1 rfl) ?_
  replace z := ob z
  obtain ⟨v4, zv4, z⟩ := z
  obtain ⟨fsv4, yv4, zv4⟩ := gR_e zv4
  refine c_get S hG hH (ci := 19) (k := 1) rfl in_J2 (Nat.le_of_ble_eq_true rfl) q237 (fun _ y => y) yv4 zv4 dJ2_grow_2_11 ?_
  cases z
/-! java/util/ArrayList.grow()[Ljava/lang/Object; -/
def fJ2_grow (K : KE) (h : HS) (a0 : Nat) : Option (HS × Option Nat) :=
  (gI K h (some a0) 19 2).bind fun v1 =>
  (rcv K h (some a0) 19).bind fun b2 =>
  (fJ2_grow_2 K h b2 (v1 + (1 : Int32))).bind fun x3 =>
  some (x3.1, x3.2)
set_option maxHeartbeats 4000000 in
theorem metJ2_grow {l : Launch} {A : Nat → Prop} {D : va_G} {ac : Nat → ClassId} {K : KE} {h : HS} {a0 : Nat} {x : HS × Option Nat} (z : fJ2_grow K h a0 = some x) : Met l yJ2_grow (ws_ yJ2_grow cJ2_grow 1 (some (.array (.object "java/lang/Object")))) (rmC 5 127 K h) (cP A D ac K h [va_rf (some a0)]) (cQq A D ac K x) (K.2.2.1 - h.2.1) (K.2.2.2 - h.2.2) A := by
  refine c_entry (plainFor_of_name (by decide)) (Nat.le_of_ble_eq_true rfl) ?_
  intro p e s m below meth c S hr hlk hnm hG hRM hH hS ls hl
  replace hl : lv_has ls 1 [(0, va_rf (some a0))] := hl
  replace hnm : meth.name = "grow" := hnm
  replace S : CallFix p m c cJ2_grow 1 s _ lw_all RJ2 := S
  obtain ⟨hx, hb, hml, hown, hts⟩ := id S
  unfold fJ2_grow at z
  refine c_aload_n hx hb dJ2_grow_0 rfl (lv_at hl 0 rfl) ?_
  refine c_aload_n hx hb dJ2_grow_1 rfl (lv_at hl 0 rfl) ?_
  replace z := ob z
  obtain ⟨v1, zv1, z⟩ := z
  obtain ⟨fsv1, yv1, zv1⟩ := gI_e zv1
  refine c_get S hG hH (ci := 19) (k := 2) rfl in_J2 (Nat.le_of_ble_eq_true rfl) q238 (fun _ y => y) yv1 zv1 dJ2_grow_2 ?_
  refine lv_iconst (v := (1 : Int32)) hx hb dJ2_grow_5 (by decide) ?_
  refine lv_iadd hx hb dJ2_grow_6 ?_
  replace z := ob z
  obtain ⟨b2, zb2, z⟩ := z
  obtain ⟨yb2, zb2⟩ := rcv_e zb2
  replace z := ob z
  obtain ⟨x3, zx3, z⟩ := z
  refine c_callq hH hS hRM (fun _ _ f1 f2 => va_runV (b := b2) (As := [.int (v1 + (1 : Int32))]) (rest := []) S (metJ2_grow_2 zx3) (cwV 1 hts (lw_V q845 q847 qs15 q171 q848) rfl rfl rfl (by decide +kernel) ⟨(Nat.le_of_ble_eq_true rfl), (Nat.le_of_ble_eq_true rfl)⟩) (c_preV hG hH hS (ci := 19) rfl zb2) rfl rfl hl.1 (by rw [yb2]; rfl) (lv_room (Nat.le_of_ble_eq_true rfl)) dJ2_grow_7 ⟨f1, f2⟩) (fun H locs hH hS => ?_)
  exact c_aret S hr (Or.inr ⟨_, rfl⟩) hlk hH hS z dJ2_grow_10
/-! java/util/ArrayList.add(Ljava/lang/Object;[Ljava/lang/Object;I)V -/
def fJ2_add_2_11 (K : KE) (a0 : Nat) (h : HS) (a1 : Option Nat) (a2 : Option Nat) (a3 : Int32) : Option (HS) :=
  (sCR K h a2 5 a3 a1).bind fun h1 =>
  (pV h1 (some a0) 19 2 (.int (a3 + (1 : Int32)))).bind fun h2 =>
  some h2
def fJ2_add_2 (K : KE) (h : HS) (a0 : Nat) (a1 : Option Nat) (a2 : Option Nat) (a3 : Int32) : Option (HS) :=
  (cN K h a2 5).bind fun v1 =>
  if a3 = v1 then
    (rcv K h (some a0) 19).bind fun b3 =>
    (fJ2_grow K h b3).bind fun x4 =>
    fJ2_add_2_11 K a0 x4.1 a1 x4.2 a3
  else
  fJ2_add_2_11 K a0 h a1 a2 a3
set_option maxHeartbeats 4000000 in
theorem wJ2_add_2_11 {p : Program} {l : Launch} {e : Env} {s : State} {m : MethodId} {args : Array Value} {below : List Frame} {meth : Method} {c : Code} {A : Nat → Prop} {D : va_G} {ac : Nat → ClassId} {K : KE} {h0 : HS} {a0 : Nat} (S : CallFix p m c cJ2_add_2 4 s args lw_all RJ2) (hr : meth.sig.returnType = none) (hlk : meth.locks = false) (hnm : meth.name = "add") (hG : GK A D ac K s) (hRM : RM K s (rmC 6 147 K h0)) {x : HS} : ∀ (h : HS) (a1 : Option Nat) (a2 : Option Nat) (a3 : Int32), fJ2_add_2_11 K a0 h a1 a2 a3 = some x → cGo p l e (rmC 6 147 K h0) s m args below meth c A D ac K (MQ below (cQv A D ac K x) args s (K.2.2.1 - h0.2.1) (K.2.2.2 - h0.2.2) A) 4 11 [(0, va_rf (some a0)), (1, va_rf a1), (2, va_rf a2), (3, .int a3)] [] h := by
  obtain ⟨hx, hb, hml, hown, hts⟩ := id S
  intro h a1 a2 a3 z H locs hH hS ls hl
  unfold fJ2_add_2_11 at z
  refine c_aload_n hx hb dJ2_add_2_11 rfl (lv_at hl 2 rfl) ?_
  refine lv_iload_n hx hb dJ2_add_2_12 rfl (lv_at hl 3 rfl) ?_
  refine c_aload_n hx hb dJ2_add_2_13 rfl (lv_at hl 1 rfl) ?_
  replace z := ob z
  obtain ⟨h1, zh1, z⟩ := z
  refine c_aast S hG hH hS 5 zh1 dJ2_add_2_14 (fun H locs hH hS => ?_)
  refine c_aload_n hx hb dJ2_add_2_15 rfl (lv_at hl 0 rfl) ?_
  refine lv_iload_n hx hb dJ2_add_2_16 rfl (lv_at hl 3 rfl) ?_
  refine lv_iconst (v := (1 : Int32)) hx hb dJ2_add_2_17 (by decide) ?_
  refine lv_iadd hx hb dJ2_add_2_18 ?_
  replace z := ob z
  obtain ⟨h2, zh2, z⟩ := z
  refine c_put S hG hH hS (ci := 19) (k := 2) rfl in_J2 tyJ2 tyJ2_ok nmJ2 (Nat.le_of_ble_eq_true rfl) q238 (fun _ y => y) rfl (ty := .int) rfl rfl rfl zh2 dJ2_add_2_19 (fun H locs hH hS => ?_)
  exact c_vret S hr hlk hH hS z dJ2_add_2_22
set_option maxHeartbeats 4000000 in
theorem metJ2_add_2 {l : Launch} {A : Nat → Prop} {D : va_G} {ac : Nat → ClassId} {K : KE} {h : HS} {a0 : Nat} {a1 : Option Nat} {a2 : Option Nat} {a3 : Int32} {x : HS} (z : fJ2_add_2 K h a0 a1 a2 a3 = some x) : Met l yJ2_add_2 (ws_ yJ2_add_2 cJ2_add_2 4 (none)) (rmC 6 147 K h) (cP A D ac K h [va_rf (some a0), va_rf a1, va_rf a2, .int a3]) (cQv A D ac K x) (K.2.2.1 - h.2.1) (K.2.2.2 - h.2.2) A := by
  refine c_entry (plainFor_of_name (by decide)) (by simp [lg_sl, ct_r, ct_i, ct_l]) ?_
  intro p e s m below meth c S hr hlk hnm hG hRM hH hS ls hl
  replace hl : lv_has ls 4 [(0, va_rf (some a0)), (1, va_rf a1), (2, va_rf a2), (3, .int a3)] := (by simpa [lv_args, ct_r, ct_i, ct_l] using hl)
  replace hnm : meth.name = "add" := hnm
  replace S : CallFix p m c cJ2_add_2 4 s _ lw_all RJ2 := S
  obtain ⟨hx, hb, hml, hown, hts⟩ := id S
  unfold fJ2_add_2 at z
  refine lv_iload_n hx hb dJ2_add_2_0 rfl (lv_at hl 3 rfl) ?_
  refine c_aload_n hx hb dJ2_add_2_1 rfl (lv_at hl 2 rfl) ?_
  replace z := ob z
  obtain ⟨v1, zv1, z⟩ := z
  refine c_alen S hG hH 5 rfl zv1 dJ2_add_2_2 ?_
  refine lv_icmp_ne (tgt := 11) hx hb dJ2_add_2_3 (by decide) (fun c2 => ?_) (fun c2 => ?_)
  · replace z := ie c2 z
    exact wJ2_add_2_11 S hr hlk hnm hG hRM h a1 a2 a3 z _ _ hH hS _ (lv_sub hl [0, 1, 2, 3] rfl)
  replace z := it c2 z
  refine c_aload_n hx hb dJ2_add_2_6 rfl (lv_at hl 0 rfl) ?_
  replace z := ob z
  obtain ⟨b3, zb3, z⟩ := z
  obtain ⟨yb3, zb3⟩ := rcv_e zb3
  replace z := ob z
  obtain ⟨x4, zx4, z⟩ := z
  refine c_callq hH hS hRM (fun _ _ f1 f2 => va_runV (b := b3) (As := []) (rest := []) S (metJ2_grow zx4) (cwV 0 hts (lw_V q841 q843 qs14 q171 q844) rfl rfl rfl (by decide +kernel) ⟨(Nat.le_of_ble_eq_true rfl), (Nat.le_of_ble_eq_true rfl)⟩) (c_preV hG hH hS (ci := 19) rfl zb3) rfl rfl hl.1 (by rw [yb3]; rfl) (lv_room (Nat.le_of_ble_eq_true rfl)) dJ2_add_2_7 ⟨f1, f2⟩) (fun H locs hH hS => ?_)
  refine c_astore_n (i := 2) (lv' := [(2, va_rf x4.2), (0, va_rf (some a0)), (1, va_rf a1), (3, .int a3)]) hx hb dJ2_add_2_10 rfl hl (by decide) (by simp [List.filter, ct_r, ct_i, ct_l]) (fun ls hl => ?_)
  exact wJ2_add_2_11 S hr hlk hnm hG hRM x4.1 a1 x4.2 a3 z _ _ hH hS _ (lv_sub hl [1, 2, 0, 3] rfl)
/-! java/util/ArrayList.add(Ljava/lang/Object;)Z -/
def fJ2_add (K : KE) (h : HS) (a0 : Nat) (a1 : Option Nat) : Option (HS × Int32) :=
  (gI K h (some a0) 19 0).bind fun v1 =>
  (pV h (some a0) 19 0 (.int (v1 + (1 : Int32)))).bind fun h2 =>
  (gR K h2 (some a0) 19 1).bind fun v3 =>
  (gI K h2 (some a0) 19 2).bind fun v4 =>
  (rcv K h2 (some a0) 19).bind fun b5 =>
  (fJ2_add_2 K h2 b5 a1 v3 v4).bind fun x6 =>
  some (x6, (1 : Int32))
set_option maxHeartbeats 4000000 in
theorem metJ2_add {l : Launch} {A : Nat → Prop} {D : va_G} {ac : Nat → ClassId} {K : KE} {h : HS} {a0 : Nat} {a1 : Option Nat} {x : HS × Int32} (z : fJ2_add K h a0 a1 = some x) : Met l yJ2_add (ws_ yJ2_add cJ2_add 2 (some .boolean)) (rmC 7 170 K h) (cP A D ac K h [va_rf (some a0), va_rf a1]) (cQi A D ac K x) (K.2.2.1 - h.2.1) (K.2.2.2 - h.2.2) A := by
  refine c_entry (plainFor_of_name (by decide)) (by simp [lg_sl, ct_r, ct_i, ct_l]) ?_
  intro p e s m below meth c S hr hlk hnm hG hRM hH hS ls hl
  replace hl : lv_has ls 2 [(0, va_rf (some a0)), (1, va_rf a1)] := (by simpa [lv_args, ct_r, ct_i, ct_l] using hl)
  replace hnm : meth.name = "add" := hnm
  replace S : CallFix p m c cJ2_add 2 s _ lw_all RJ2 := S
  obtain ⟨hx, hb, hml, hown, hts⟩ := id S
  unfold fJ2_add at z
  refine c_aload_n hx hb dJ2_add_0 rfl (lv_at hl 0 rfl) ?_
  refine lv_dup hx hb dJ2_add_1 rfl ?_
  replace z := ob z
  obtain ⟨v1, zv1, z⟩ := z
  obtain ⟨fsv1, yv1, zv1⟩ := gI_e zv1
  refine c_get S hG hH (ci := 19) (k := 0) rfl in_J2 (Nat.le_of_ble_eq_true rfl) q240 (u_same (hts _ q241)) yv1 zv1 dJ2_add_2 ?_
  refine lv_iconst (v := (1 : Int32)) hx hb dJ2_add_5 (by decide) ?_
  refine lv_iadd hx hb dJ2_add_6 ?_
  replace z := ob z
  obtain ⟨h2, zh2, z⟩ := z
  refine c_put S hG hH hS (ci := 19) (k := 0) rfl in_J2 tyJ2 tyJ2_ok nmJ2 (Nat.le_of_ble_eq_true rfl) q240 (u_same (hts _ q241)) rfl (ty := .int) rfl rfl rfl zh2 dJ2_add_7 (fun H locs hH hS => ?_)
  refine c_aload_n hx hb dJ2_add_10 rfl (lv_at hl 0 rfl) ?_
  refine c_aload_n hx hb dJ2_add_11 rfl (lv_at hl 1 rfl) ?_
  refine c_aload_n hx hb dJ2_add_12 rfl (lv_at hl 0 rfl) ?_
  replace z := ob z
  obtain ⟨v3, zv3, z⟩ := z
  obtain ⟨fsv3, yv3, zv3⟩ := gR_e zv3
  refine c_get S hG hH (ci := 19) (k := 1) rfl in_J2 (Nat.le_of_ble_eq_true rfl) q237 (fun _ y => y) yv3 zv3 dJ2_add_13 ?_
  refine c_aload_n hx hb dJ2_add_16 rfl (lv_at hl 0 rfl) ?_
  replace z := ob z
  obtain ⟨v4, zv4, z⟩ := z
  obtain ⟨fsv4, yv4, zv4⟩ := gI_e zv4
  refine c_get S hG hH (ci := 19) (k := 2) rfl in_J2 (Nat.le_of_ble_eq_true rfl) q238 (fun _ y => y) yv4 zv4 dJ2_add_17 ?_
  replace z := ob z
  obtain ⟨b5, zb5, z⟩ := z
  obtain ⟨yb5, zb5⟩ := rcv_e zb5
  replace z := ob z
  obtain ⟨x6, zx6, z⟩ := z
  refine c_callv hH hS hRM (fun _ _ f1 f2 => va_runV (b := b5) (As := [va_rf a1, va_rf v3, .int v4]) (rest := []) S (metJ2_add_2 zx6) (cwV 3 hts (lw_V q837 q839 qs13 q171 q840) rfl rfl rfl (by decide +kernel) ⟨(Nat.le_of_ble_eq_true rfl), (Nat.le_of_ble_eq_true rfl)⟩) (c_preV hG hH hS (ci := 19) rfl zb5) rfl rfl hl.1 (by rw [yb5]; rfl) (lv_room (Nat.le_of_ble_eq_true rfl)) dJ2_add_20 ⟨f1, f2⟩) (fun H locs hH hS => ?_)
  refine lv_iconst (v := (1 : Int32)) hx hb dJ2_add_23 (by decide) ?_
  exact c_iret S hr hlk rfl hH hS z dJ2_add_24
/-! java/lang/Throwable.<init>(Ljava/lang/String;Ljava/lang/Throwable;ZZ)V -/
def fJ3_init_2_41 (K : KE) (a0 : Nat) (h : HS) (a1 : Option Nat) (a2 : Option Nat) (a3 : Int32) : Option (HS) :=
  (pV h (some a0) 3 3 (va_rf a1)).bind fun h1 =>
  (pV h1 (some a0) 3 0 (va_rf a2)).bind fun h2 =>
  if a3 = 0 then
    (pV h2 (some a0) 3 2 (va_rf none)).bind fun h4 =>
    some h4
  else
  some h2
def fJ3_init_2 (K : KE) (h : HS) (a0 : Nat) (a1 : Option Nat) (a2 : Option Nat) (a3 : Int32) (a4 : Int32) : Option (HS) :=
  (pV h (some a0) 3 0 (va_rf (some a0))).bind fun h1 =>
  (pV h1 (some a0) 3 1 (va_rf (K.2.1 4))).bind fun h2 =>
  (pV h2 (some a0) 3 2 (va_rf (K.2.1 5))).bind fun h3 =>
  if a4 = 0 then
    (pV h3 (some a0) 3 1 (va_rf none)).bind fun h5 =>
    fJ3_init_2_41 K a0 h5 a1 a2 a3
  else
  none
set_option maxHeartbeats 4000000 in
theorem wJ3_init_2_41 {p : Program} {l : Launch} {e : Env} {s : State} {m : MethodId} {args : Array Value} {below : List Frame} {meth : Method} {c : Code} {A : Nat → Prop} {D : va_G} {ac : Nat → ClassId} {K : KE} {h0 : HS} {a0 : Nat} (S : CallFix p m c cJ3_init_2 5 s args lw_all RJ3) (hr : meth.sig.returnType = none) (hlk : meth.locks = false) (hnm : meth.name = "<init>") (hG : GK A D ac K s) (hRM : RM K s (rmC 2 40 K h0)) {x : HS} : ∀ (h : HS) (a1 : Option Nat) (a2 : Option Nat) (a3 : Int32), fJ3_init_2_41 K a0 h a1 a2 a3 = some x → cGo p l e (rmC 2 40 K h0) s m args below meth c A D ac K (MQ below (cQv A D ac K x) args s (K.2.2.1 - h0.2.1) (K.2.2.2 - h0.2.2) A) 5 41 [(0, va_rf (some a0)), (1, va_rf a1), (2, va_rf a2), (3, .int a3)] [] h := by
  obtain ⟨hx, hb, hml, hown, hts⟩ := id S
  intro h a1 a2 a3 z H locs hH hS ls hl
  unfold fJ3_init_2_41 at z
  refine c_aload_n hx hb dJ3_init_2_41 rfl (lv_at hl 0 rfl) ?_
  refine c_aload_n hx hb dJ3_init_2_42 rfl (lv_at hl 1 rfl) ?_
  replace z := ob z
  obtain ⟨h1, zh1, z⟩ := z
  refine c_put S hG hH hS (ci := 3) (k := 3) rfl in_X3 tyX3 tyX3_ok nmX3 (Nat.le_of_ble_eq_true rfl) q365 (fun _ y => y) rfl (ty := .object "java/lang/String") rfl (nr_o _) (ft_o _) zh1 dJ3_init_2_43 (fun H locs hH hS => ?_)
  refine c_aload_n hx hb dJ3_init_2_46 rfl (lv_at hl 0 rfl) ?_
  refine c_aload_n hx hb dJ3_init_2_47 rfl (lv_at hl 2 rfl) ?_
  replace z := ob z
  obtain ⟨h2, zh2, z⟩ := z
  refine c_put S hG hH hS (ci := 3) (k := 0) rfl in_X3 tyX3 tyX3_ok nmX3 (Nat.le_of_ble_eq_true rfl) q366 (fun _ y => y) rfl (ty := .object "java/lang/Throwable") rfl (nr_o _) (ft_o _) zh2 dJ3_init_2_48 (fun H locs hH hS => ?_)
  refine lv_iload_n hx hb dJ3_init_2_51 rfl (lv_at hl 3 rfl) ?_
  refine lv_if_ne (tgt := 60) hx hb dJ3_init_2_52 (by decide) (fun c3 => ?_) (fun c3 => ?_)
  · replace z := ie c3 z
    exact c_vret S hr hlk hH hS z dJ3_init_2_60
  replace z := it c3 z
  refine c_aload_n hx hb dJ3_init_2_55 rfl (lv_at hl 0 rfl) ?_
  refine c_null hx hb dJ3_init_2_56 ?_
  replace z := ob z
  obtain ⟨h4, zh4, z⟩ := z
  refine c_put S hG hH hS (ci := 3) (k := 2) rfl in_X3 tyX3 tyX3_ok nmX3 (Nat.le_of_ble_eq_true rfl) q368 (fun _ y => y) rfl (ty := .object "java/util/List") rfl (nr_o _) (ft_o _) zh4 dJ3_init_2_57 (fun H locs hH hS => ?_)
  exact c_vret S hr hlk hH hS z dJ3_init_2_60
set_option maxHeartbeats 4000000 in
theorem metJ3_init_2 {l : Launch} {A : Nat → Prop} {D : va_G} {ac : Nat → ClassId} {K : KE} {h : HS} {a0 : Nat} {a1 : Option Nat} {a2 : Option Nat} {a3 : Int32} {a4 : Int32} {x : HS} (z : fJ3_init_2 K h a0 a1 a2 a3 a4 = some x) : Met l yJ3_init_2 (ws_ yJ3_init_2 cJ3_init_2 5 (none)) (rmC 2 40 K h) (cP A D ac K h [va_rf (some a0), va_rf a1, va_rf a2, .int a3, .int a4]) (cQv A D ac K x) (K.2.2.1 - h.2.1) (K.2.2.2 - h.2.2) A := by
  refine c_entry (plainFor_of_name (by decide)) (by simp [lg_sl, ct_r, ct_i, ct_l]) ?_
  intro p e s m below meth c S hr hlk hnm hG hRM hH hS ls hl
  replace hl : lv_has ls 5 [(0, va_rf (some a0)), (1, va_rf a1), (2, va_rf a2), (3, .int a3), (4, .int a4)] := (by simpa [lv_args, ct_r, ct_i, ct_l] using hl)
  replace hnm : meth.name = "<init>" := hnm
  replace S : CallFix p m c cJ3_init_2 5 s _ lw_all RJ3 := S
  obtain ⟨hx, hb, hml, hown, hts⟩ := id S
  unfold fJ3_init_2 at z
  refine c_aload_n hx hb dJ3_init_2_0 rfl (lv_at hl 0 rfl) ?_
  refine c_obj S q334 q213 q214 hl.1 (Nat.le_of_ble_eq_true rfl) (Nat.le_of_ble_eq_true rfl) (Nat.le_of_ble_eq_true rfl) dJ3_init_2_1 ?_
  refine c_aload_n hx hb dJ3_init_2_4 rfl (lv_at hl 0 rfl) ?_
  refine c_aload_n hx hb dJ3_init_2_5 rfl (lv_at hl 0 rfl) ?_
  replace z := ob z
  obtain ⟨h1, zh1, z⟩ := z
  refine c_put S hG hH hS (ci := 3) (k := 0) rfl in_X3 tyX3 tyX3_ok nmX3 (Nat.le_of_ble_eq_true rfl) q366 (fun _ y => y) rfl (ty := .object "java/lang/Throwable") rfl (nr_o _) (ft_o _) zh1 dJ3_init_2_6 (fun H locs hH hS => ?_)
  refine c_aload_n hx hb dJ3_init_2_9 rfl (lv_at hl 0 rfl) ?_
  refine c_gets S hG hS (i := 4) (List.mem_of_getElem? (i := 4) rfl) q335 dJ3_init_2_10 ?_
  replace z := ob z
  obtain ⟨h2, zh2, z⟩ := z
  refine c_put S hG hH hS (ci := 3) (k := 1) rfl in_X3 tyX3 tyX3_ok nmX3 (Nat.le_of_ble_eq_true rfl) q367 (fun _ y => y) rfl (ty := .array (.object "java/lang/StackTraceElement")) rfl (nr_a _) (ft_a _) zh2 dJ3_init_2_13 (fun H locs hH hS => ?_)
  refine c_aload_n hx hb dJ3_init_2_16 rfl (lv_at hl 0 rfl) ?_
  refine c_gets S hG hS (i := 5) (List.mem_of_getElem? (i := 5) rfl) q337 dJ3_init_2_17 ?_
  replace z := ob z
  obtain ⟨h3, zh3, z⟩ := z
  refine c_put S hG hH hS (ci := 3) (k := 2) rfl in_X3 tyX3 tyX3_ok nmX3 (Nat.le_of_ble_eq_true rfl) q368 (fun _ y => y) rfl (ty := .object "java/util/List") rfl (nr_o _) (ft_o _) zh3 dJ3_init_2_20 (fun H locs hH hS => ?_)
  refine lv_iload hx hb dJ3_init_2_23 (lv_at hl 4 rfl) ?_
  refine lv_if_eq (tgt := 36) hx hb dJ3_init_2_25 (by decide) (fun c4 => ?_) (fun c4 => ?_)
  rotate_left 1
  · replace z := ie c4 z
    refine c_aload_n hx hb dJ3_init_2_28 rfl (lv_at hl 0 rfl) ?_
    cases z
  replace z := it c4 z
  refine c_aload_n hx hb dJ3_init_2_36 rfl (lv_at hl 0 rfl) ?_
  refine c_null hx hb dJ3_init_2_37 ?_
  replace z := ob z
  obtain ⟨h5, zh5, z⟩ := z
  refine c_put S hG hH hS (ci := 3) (k := 1) rfl in_X3 tyX3 tyX3_ok nmX3 (Nat.le_of_ble_eq_true rfl) q367 (fun _ y => y) rfl (ty := .array (.object "java/lang/StackTraceElement")) rfl (nr_a _) (ft_a _) zh5 dJ3_init_2_38 (fun H locs hH hS => ?_)
  exact wJ3_init_2_41 S hr hlk hnm hG hRM h5 a1 a2 a3 z _ _ hH hS _ (lv_sub hl [0, 1, 2, 3] rfl)
/-! java/lang/Exception.<init>(Ljava/lang/String;Ljava/lang/Throwable;ZZ)V -/
def fJ4_init (K : KE) (h : HS) (a0 : Nat) (a1 : Option Nat) (a2 : Option Nat) (a3 : Int32) (a4 : Int32) : Option (HS) :=
  (fJ3_init_2 K h a0 a1 a2 a3 a4).bind fun x1 =>
  some x1
set_option maxHeartbeats 4000000 in
theorem metJ4_init {l : Launch} {A : Nat → Prop} {D : va_G} {ac : Nat → ClassId} {K : KE} {h : HS} {a0 : Nat} {a1 : Option Nat} {a2 : Option Nat} {a3 : Int32} {a4 : Int32} {x : HS} (z : fJ4_init K h a0 a1 a2 a3 a4 = some x) : Met l yJ4_init (ws_ yJ4_init cJ4_init 5 (none)) (rmC 3 64 K h) (cP A D ac K h [va_rf (some a0), va_rf a1, va_rf a2, .int a3, .int a4]) (cQv A D ac K x) (K.2.2.1 - h.2.1) (K.2.2.2 - h.2.2) A := by
  refine c_entry (plainFor_of_name (by decide)) (by simp [lg_sl, ct_r, ct_i, ct_l]) ?_
  intro p e s m below meth c S hr hlk hnm hG hRM hH hS ls hl
  replace hl : lv_has ls 5 [(0, va_rf (some a0)), (1, va_rf a1), (2, va_rf a2), (3, .int a3), (4, .int a4)] := (by simpa [lv_args, ct_r, ct_i, ct_l] using hl)
  replace hnm : meth.name = "<init>" := hnm
  replace S : CallFix p m c cJ4_init 5 s _ lw_all RJ4 := S
  obtain ⟨hx, hb, hml, hown, hts⟩ := id S
  unfold fJ4_init at z
  refine c_aload_n hx hb dJ4_init_0 rfl (lv_at hl 0 rfl) ?_
  refine c_aload_n hx hb dJ4_init_1 rfl (lv_at hl 1 rfl) ?_
  refine c_aload_n hx hb dJ4_init_2 rfl (lv_at hl 2 rfl) ?_
  refine lv_iload_n hx hb dJ4_init_3 rfl (lv_at hl 3 rfl) ?_
  refine lv_iload hx hb dJ4_init_4 (lv_at hl 4 rfl) ?_
  replace z := ob z
  obtain ⟨x1, zx1, z⟩ := z
  refine c_callv hH hS hRM (fun _ _ f1 f2 => va_runI (b := a0) (As := [va_rf a1, va_rf a2, .int a3, .int a4]) (rest := []) S (metJ3_init_2 zx1) (cwI 4 hts (lw_meth q359) rfl rfl rfl (hts _ q173) (hts _ q357) (hts _ q358) rfl (by decide +kernel) ⟨(Nat.le_of_ble_eq_true rfl), (Nat.le_of_ble_eq_true rfl)⟩) (c_pre hG hH hS) rfl rfl hl.1 rfl (lv_room (Nat.le_of_ble_eq_true rfl)) dJ4_init_6 ⟨f1, f2⟩) (fun H locs hH hS => ?_)
  exact c_vret S hr hlk hH hS z dJ4_init_9
/-! java/lang/RuntimeException.<init>(Ljava/lang/String;Ljava/lang/Throwable;ZZ)V -/
def fJ5_init (K : KE) (h : HS) (a0 : Nat) (a1 : Option Nat) (a2 : Option Nat) (a3 : Int32) (a4 : Int32) : Option (HS) :=
  (fJ4_init K h a0 a1 a2 a3 a4).bind fun x1 =>
  some x1
set_option maxHeartbeats 4000000 in
theorem metJ5_init {l : Launch} {A : Nat → Prop} {D : va_G} {ac : Nat → ClassId} {K : KE} {h : HS} {a0 : Nat} {a1 : Option Nat} {a2 : Option Nat} {a3 : Int32} {a4 : Int32} {x : HS} (z : fJ5_init K h a0 a1 a2 a3 a4 = some x) : Met l yJ5_init (ws_ yJ5_init cJ5_init 5 (none)) (rmC 4 88 K h) (cP A D ac K h [va_rf (some a0), va_rf a1, va_rf a2, .int a3, .int a4]) (cQv A D ac K x) (K.2.2.1 - h.2.1) (K.2.2.2 - h.2.2) A := by
  refine c_entry (plainFor_of_name (by decide)) (by simp [lg_sl, ct_r, ct_i, ct_l]) ?_
  intro p e s m below meth c S hr hlk hnm hG hRM hH hS ls hl
  replace hl : lv_has ls 5 [(0, va_rf (some a0)), (1, va_rf a1), (2, va_rf a2), (3, .int a3), (4, .int a4)] := (by simpa [lv_args, ct_r, ct_i, ct_l] using hl)
  replace hnm : meth.name = "<init>" := hnm
  replace S : CallFix p m c cJ5_init 5 s _ lw_all RJ5 := S
  obtain ⟨hx, hb, hml, hown, hts⟩ := id S
  unfold fJ5_init at z
  refine c_aload_n hx hb dJ5_init_0 rfl (lv_at hl 0 rfl) ?_
  refine c_aload_n hx hb dJ5_init_1 rfl (lv_at hl 1 rfl) ?_
  refine c_aload_n hx hb dJ5_init_2 rfl (lv_at hl 2 rfl) ?_
  refine lv_iload_n hx hb dJ5_init_3 rfl (lv_at hl 3 rfl) ?_
  refine lv_iload hx hb dJ5_init_4 (lv_at hl 4 rfl) ?_
  replace z := ob z
  obtain ⟨x1, zx1, z⟩ := z
  refine c_callv hH hS hRM (fun _ _ f1 f2 => va_runI (b := a0) (As := [va_rf a1, va_rf a2, .int a3, .int a4]) (rest := []) S (metJ4_init zx1) (cwI 4 hts (lw_meth q356) rfl rfl rfl (hts _ q174) (hts _ q354) (hts _ q355) rfl (by decide +kernel) ⟨(Nat.le_of_ble_eq_true rfl), (Nat.le_of_ble_eq_true rfl)⟩) (c_pre hG hH hS) rfl rfl hl.1 rfl (lv_room (Nat.le_of_ble_eq_true rfl)) dJ5_init_6 ⟨f1, f2⟩) (fun H locs hH hS => ?_)
  exact c_vret S hr hlk hH hS z dJ5_init_9
/-! java/lang/StringUTF16.coderFromArrayLen([BI)B -/
def fJ7_coderFromArrayLen (K : KE) (h : HS) (a0 : Option Nat) (a1 : Int32) : Option (Int32) :=
  (cN K h a0 3).bind fun v1 =>
  (br ((((a1 - v1).toUInt32 >>> ((31 : Int32).toUInt32 &&& Int32.toUInt32 31)).toInt32).toInt8.toInt32)).bind fun g2 =>
  some ((((a1 - v1).toUInt32 >>> ((31 : Int32).toUInt32 &&& Int32.toUInt32 31)).toInt32).toInt8.toInt32)
set_option maxHeartbeats 4000000 in
theorem metJ7_coderFromArrayLen {l : Launch} {A : Nat → Prop} {D : va_G} {ac : Nat → ClassId} {K : KE} {h : HS} {a0 : Option Nat} {a1 : Int32} {x : Int32} (z : fJ7_coderFromArrayLen K h a0 a1 = some x) : Met l yJ7_coderFromArrayLen (ws_ yJ7_coderFromArrayLen cJ7_coderFromArrayLen 2 (some .byte)) (rmC 1 0 K h) (cP A D ac K h [va_rf a0, .int a1]) (cQi A D ac K (h, x)) (K.2.2.1 - h.2.1) (K.2.2.2 - h.2.2) A := by
  refine c_entry (plainFor_of_name (by decide)) (by simp [lg_sl, ct_r, ct_i, ct_l]) ?_
  intro p e s m below meth c S hr hlk hnm hG hRM hH hS ls hl
  replace hl : lv_has ls 2 [(0, va_rf a0), (1, .int a1)] := (by simpa [lv_args, ct_r, ct_i, ct_l] using hl)
  replace hnm : meth.name = "coderFromArrayLen" := hnm
  replace S : CallFix p m c cJ7_coderFromArrayLen 2 s _ lw_all RJ7 := S
  obtain ⟨hx, hb, hml, hown, hts⟩ := id S
  unfold fJ7_coderFromArrayLen at z
  refine lv_iload_n hx hb dJ7_coderFromArrayLen_0 rfl (lv_at hl 1 rfl) ?_
  refine c_aload_n hx hb dJ7_coderFromArrayLen_1 rfl (lv_at hl 0 rfl) ?_
  replace z := ob z
  obtain ⟨v1, zv1, z⟩ := z
  refine c_alen S hG hH 3 rfl zv1 dJ7_coderFromArrayLen_2 ?_
  refine lv_isub hx hb dJ7_coderFromArrayLen_3 ?_
  refine lv_bipush (v := (31 : Int32)) hx hb dJ7_coderFromArrayLen_4 (by decide) ?_
  refine lv_iushr (v := (((a1 - v1).toUInt32 >>> ((31 : Int32).toUInt32 &&& Int32.toUInt32 31)).toInt32)) hx hb dJ7_coderFromArrayLen_6 rfl ?_
  refine lv_i2b (v := (((a1 - v1).toUInt32 >>> ((31 : Int32).toUInt32 &&& Int32.toUInt32 31)).toInt32).toInt8.toInt32) hx hb dJ7_coderFromArrayLen_7 rfl ?_
  replace z := ob z
  obtain ⟨g2, zg2, z⟩ := z
  obtain ⟨yg2, -⟩ := br_e zg2
  exact c_iret' S hr hlk yg2 hH hS z dJ7_coderFromArrayLen_8
/-! java/lang/StringUTF16.compress([CI[BII)I -/
def fJ7_compress_2_3 (K : KE) : Nat → HS → Option Nat → Int32 → Option Nat → Int32 → Int32 → Int32 → Option (HS × Int32)
  | 0, _, _, _, _, _, _, _ => none
  | n + 1, h, a0, a1, a2, a3, a4, a5 =>
    if a4 ≤ a5 then
      some (h, a4)
    else
    (cI K h a0 2 a1).bind fun v2 =>
    if v2 ≤ (255 : Int32) then
      (sC h a2 3 a3 (vp_nar .byte v2.toInt8.toInt32)).bind fun h4 =>
      fJ7_compress_2_3 K n h4 a0 (a1 + (1 : Int32)) a2 (a3 + (1 : Int32)) a4 (a5 + (1 : Int32))
    else
    some (h, a5)
def fJ7_compress_2 (K : KE) (h : HS) (a0 : Option Nat) (a1 : Int32) (a2 : Option Nat) (a3 : Int32) (a4 : Int32) : Option (HS × Int32) :=
  fJ7_compress_2_3 K FU h a0 a1 a2 a3 a4 (0 : Int32)
set_option maxHeartbeats 4000000 in
theorem wJ7_compress_2_3 {p : Program} {l : Launch} {e : Env} {s : State} {m : MethodId} {args : Array Value} {below : List Frame} {meth : Method} {c : Code} {A : Nat → Prop} {D : va_G} {ac : Nat → ClassId} {K : KE} {h0 : HS} (S : CallFix p m c cJ7_compress_2 7 s args lw_all RJ7) (hr : meth.sig.returnType = some .int) (hlk : meth.locks = false) (hnm : meth.name = "compress") (hG : GK A D ac K s) (hRM : RM K s (rmC 1 0 K h0)) {x : HS × Int32} : ∀ (n : Nat) (h : HS) (a0 : Option Nat) (a1 : Int32) (a2 : Option Nat) (a3 : Int32) (a4 : Int32) (a5 : Int32), fJ7_compress_2_3 K n h a0 a1 a2 a3 a4 a5 = some x → cGo p l e (rmC 1 0 K h0) s m args below meth c A D ac K (MQ below (cQi A D ac K x) args s (K.2.2.1 - h0.2.1) (K.2.2.2 - h0.2.2) A) 7 3 [(0, va_rf a0), (1, .int a1), (2, va_rf a2), (3, .int a3), (4, .int a4), (5, .int a5)] [] h := by
  obtain ⟨hx, hb, hml, hown, hts⟩ := id S
  intro n
  induction n with
  | zero => intro h a0 a1 a2 a3 a4 a5 z; cases z
  | succ n ih =>
    intro h a0 a1 a2 a3 a4 a5 z H locs hH hS ls hl
    rw [fJ7_compress_2_3] at z
    refine lv_iload hx hb dJ7_compress_2_3 (lv_at hl 5 rfl) ?_
    refine lv_iload hx hb dJ7_compress_2_5 (lv_at hl 4 rfl) ?_
    refine lv_icmp_ge (tgt := 44) hx hb dJ7_compress_2_7 (by decide) (fun c1 => ?_) (fun c1 => ?_)
    · replace z := it c1 z
      refine lv_iload hx hb dJ7_compress_2_44 (lv_at hl 4 rfl) ?_
      exact c_iret S hr hlk rfl hH hS z dJ7_compress_2_46
    replace z := ie c1 z
    refine c_aload_n hx hb dJ7_compress_2_10 rfl (lv_at hl 0 rfl) ?_
    refine lv_iload_n hx hb dJ7_compress_2_11 rfl (lv_at hl 1 rfl) ?_
    replace z := ob z
    obtain ⟨v2, zv2, z⟩ := z
    refine c_cald S hG hH zv2 dJ7_compress_2_12 ?_
    refine lv_istore (lv' := [(6, .int v2), (0, va_rf a0), (1, .int a1), (2, va_rf a2), (3, .int a3), (4, .int a4), (5, .int a5)]) hx hb dJ7_compress_2_13 hl (by decide) rfl (fun ls hl => ?_)
    refine lv_iload hx hb dJ7_compress_2_15 (lv_at hl 0 rfl) ?_
    refine lv_sipush (v := (255 : Int32)) hx hb dJ7_compress_2_17 (by decide) ?_
    refine lv_icmp_le (tgt := 26) hx hb dJ7_compress_2_20 (by decide) (fun c3 => ?_) (fun c3 => ?_)
    rotate_left 1
    · replace z := ie c3 z
      refine lv_iload hx hb dJ7_compress_2_23 (lv_at hl 6 rfl) ?_
      exact c_iret S hr hlk rfl hH hS z dJ7_compress_2_25
    replace z := it c3 z
    refine c_aload_n hx hb dJ7_compress_2_26 rfl (lv_at hl 3 rfl) ?_
    refine lv_iload_n hx hb dJ7_compress_2_27 rfl (lv_at hl 4 rfl) ?_
    refine lv_iload hx hb dJ7_compress_2_28 (lv_at hl 0 rfl) ?_
    refine lv_i2b (v := v2.toInt8.toInt32) hx hb dJ7_compress_2_30 rfl ?_
    replace z := ob z
    obtain ⟨h4, zh4, z⟩ := z
    refine c_bast S hG hH hS zh4 dJ7_compress_2_31 (fun H locs hH hS => ?_)
    refine lv_iinc (v := (a1 + (1 : Int32))) (lv' := [(1, .int (a1 + (1 : Int32))), (6, .int v2), (0, va_rf a0), (2, va_rf a2), (3, .int a3), (4, .int a4), (5, .int a5)]) hx hb dJ7_compress_2_32 hl (k := 2) rfl rfl (by decide) (by simp [List.filter, ct_r]) (fun ls hl => ?_)
    refine lv_iinc (v := (a3 + (1 : Int32))) (lv' := [(3, .int (a3 + (1 : Int32))), (1, .int (a1 + (1 : Int32))), (6, .int v2), (0, va_rf a0), (2, va_rf a2), (4, .int a4), (5, .int a5)]) hx hb dJ7_compress_2_35 hl (k := 4) rfl rfl (by decide) (by simp [List.filter, ct_r]) (fun ls hl => ?_)
    refine lv_iinc (v := (a5 + (1 : Int32))) (lv' := [(5, .int (a5 + (1 : Int32))), (3, .int (a3 + (1 : Int32))), (1, .int (a1 + (1 : Int32))), (6, .int v2), (0, va_rf a0), (2, va_rf a2), (4, .int a4)]) hx hb dJ7_compress_2_38 hl (k := 6) rfl rfl (by decide) rfl (fun ls hl => ?_)
    refine lv_goto (tgt := 3) hx hb dJ7_compress_2_41 (by decide) ?_
    exact ih h4 a0 (a1 + (1 : Int32)) a2 (a3 + (1 : Int32)) a4 (a5 + (1 : Int32)) z _ _ hH hS _ (lv_sub hl [4, 2, 5, 1, 6, 0] rfl)
set_option maxHeartbeats 4000000 in
theorem metJ7_compress_2 {l : Launch} {A : Nat → Prop} {D : va_G} {ac : Nat → ClassId} {K : KE} {h : HS} {a0 : Option Nat} {a1 : Int32} {a2 : Option Nat} {a3 : Int32} {a4 : Int32} {x : HS × Int32} (z : fJ7_compress_2 K h a0 a1 a2 a3 a4 = some x) : Met l yJ7_compress_2 (ws_ yJ7_compress_2 cJ7_compress_2 7 (some .int)) (rmC 1 0 K h) (cP A D ac K h [va_rf a0, .int a1, va_rf a2, .int a3, .int a4]) (cQi A D ac K x) (K.2.2.1 - h.2.1) (K.2.2.2 - h.2.2) A := by
  refine c_entry (plainFor_of_name (by decide)) (by simp [lg_sl, ct_r, ct_i, ct_l]) ?_
  intro p e s m below meth c S hr hlk hnm hG hRM hH hS ls hl
  replace hl : lv_has ls 7 [(0, va_rf a0), (1, .int a1), (2, va_rf a2), (3, .int a3), (4, .int a4)] := (by simpa [lv_args, ct_r, ct_i, ct_l] using hl)
  replace hnm : meth.name = "compress" := hnm
  replace S : CallFix p m c cJ7_compress_2 7 s _ lw_all RJ7 := S
  obtain ⟨hx, hb, hml, hown, hts⟩ := id S
  unfold fJ7_compress_2 at z
  refine lv_iconst (v := (0 : Int32)) hx hb dJ7_compress_2_0 (by decide) ?_
  refine lv_istore (lv' := [(5, .int (0 : Int32)), (0, va_rf a0), (1, .int a1), (2, va_rf a2), (3, .int a3), (4, .int a4)]) hx hb dJ7_compress_2_1 hl (by decide) rfl (fun ls hl => ?_)
  exact wJ7_compress_2_3 S hr hlk hnm hG hRM FU h a0 a1 a2 a3 a4 (0 : Int32) z _ _ hH hS _ (lv_sub hl [1, 2, 3, 4, 5, 0] rfl)
/-! java/lang/StringUTF16.toBytes([CII)[B -/
def fJ7_toBytes (K : KE) (h : HS) (a0 : Option Nat) (a1 : Int32) (a2 : Int32) : Option (Option Nat) :=
  none
set_option maxHeartbeats 4000000 in
theorem metJ7_toBytes {l : Launch} {A : Nat → Prop} {D : va_G} {ac : Nat → ClassId} {K : KE} {h : HS} {a0 : Option Nat} {a1 : Int32} {a2 : Int32} {x : Option Nat} (z : fJ7_toBytes K h a0 a1 a2 = some x) : Met l yJ7_toBytes (ws_ yJ7_toBytes cJ7_toBytes 5 (some (.array .byte))) (rmC 1 0 K h) (cP A D ac K h [va_rf a0, .int a1, .int a2]) (cQq A D ac K (h, x)) (K.2.2.1 - h.2.1) (K.2.2.2 - h.2.2) A := by
  refine c_entry (plainFor_of_name (by decide)) (by simp [lg_sl, ct_r, ct_i, ct_l]) ?_
  intro p e s m below meth c S hr hlk hnm hG hRM hH hS ls hl
  replace hl : lv_has ls 5 [(0, va_rf a0), (1, .int a1), (2, .int a2)] := (by simpa [lv_args, ct_r, ct_i, ct_l] using hl)
  replace hnm : meth.name = "toBytes" := hnm
  replace S : CallFix p m c cJ7_toBytes 5 s _ lw_all RJ7 := S
  obtain ⟨hx, hb, hml, hown, hts⟩ := id S
  unfold fJ7_toBytes at z
  refine lv_iload_n hx hb dJ7_toBytes_0 rfl (lv_at hl 2 rfl) ?_
  cases z
/-! java/lang/StringUTF16.compress([CII)[B -/
def fJ7_compress (K : KE) (h : HS) (a0 : Option Nat) (a1 : Int32) (a2 : Int32) : Option (HS × Option Nat) :=
  (nA K h 3 (.inl (fun _ => 0)) a2).bind fun h1 =>
  (fJ7_compress_2 K h1 a0 a1 (some h.2.1) (0 : Int32) a2).bind fun x2 =>
  if x2.2 = a2 then
    some (x2.1, (some h.2.1))
  else
  (fJ7_toBytes K x2.1 a0 a1 a2).bind fun x4 =>
  none
set_option maxHeartbeats 4000000 in
theorem metJ7_compress {l : Launch} {A : Nat → Prop} {D : va_G} {ac : Nat → ClassId} {K : KE} {h : HS} {a0 : Option Nat} {a1 : Int32} {a2 : Int32} {x : HS × Option Nat} (z : fJ7_compress K h a0 a1 a2 = some x) : Met l yJ7_compress (ws_ yJ7_compress cJ7_compress 6 (some (.array .byte))) (rmC 2 26 K h) (cP A D ac K h [va_rf a0, .int a1, .int a2]) (cQq A D ac K x) (K.2.2.1 - h.2.1) (K.2.2.2 - h.2.2) A := by
  refine c_entry (plainFor_of_name (by decide)) (by simp [lg_sl, ct_r, ct_i, ct_l]) ?_
  intro p e s m below meth c S hr hlk hnm hG hRM hH hS ls hl
  replace hl : lv_has ls 6 [(0, va_rf a0), (1, .int a1), (2, .int a2)] := (by simpa [lv_args, ct_r, ct_i, ct_l] using hl)
  replace hnm : meth.name = "compress" := hnm
  replace S : CallFix p m c cJ7_compress 6 s _ lw_all RJ7 := S
  obtain ⟨hx, hb, hml, hown, hts⟩ := id S
  unfold fJ7_compress at z
  refine lv_iload_n hx hb dJ7_compress_0 rfl (lv_at hl 2 rfl) ?_
  replace z := ob z
  obtain ⟨h1, zh1, z⟩ := z
  refine c_newa S hG hH hS hRM 3 (atype := .byte) (ty := .byte) rfl rfl (fun y => y) (by decide) q381 (fun _ => rfl) zh1 dJ7_compress_1 (fun H locs hH hS => ?_)
  refine c_astore_n (lv' := [(3, va_rf (some h.2.1)), (0, va_rf a0), (1, .int a1), (2, .int a2)]) hx hb dJ7_compress_3 rfl hl (by decide) rfl (fun ls hl => ?_)
  refine c_aload_n hx hb dJ7_compress_4 rfl (lv_at hl 1 rfl) ?_
  refine lv_iload_n hx hb dJ7_compress_5 rfl (lv_at hl 2 rfl) ?_
  refine c_aload_n hx hb dJ7_compress_6 rfl (lv_at hl 0 rfl) ?_
  refine lv_iconst (v := (0 : Int32)) hx hb dJ7_compress_7 (by decide) ?_
  refine lv_iload_n hx hb dJ7_compress_8 rfl (lv_at hl 3 rfl) ?_
  replace z := ob z
  obtain ⟨x2, zx2, z⟩ := z
  refine c_calli hH hS hRM (fun _ _ f1 f2 => va_runS (As := [va_rf a0, .int a1, va_rf (some h.2.1), .int (0 : Int32), .int a2]) (rest := []) S (metJ7_compress_2 zx2) (va_cwS 5 hts (lw_S q627 q628 q181 q629) rfl rfl rfl (by decide +kernel) ⟨(Nat.le_of_ble_eq_true rfl), (Nat.le_of_ble_eq_true rfl)⟩) (c_pre hG hH hS) rfl rfl hl.1 rfl (lv_room (Nat.le_of_ble_eq_true rfl)) dJ7_compress_9 ⟨f1, f2⟩) (fun H locs hH hS => ?_)
  refine lv_istore (lv' := [(4, .int x2.2), (3, va_rf (some h.2.1)), (0, va_rf a0), (1, .int a1), (2, .int a2)]) hx hb dJ7_compress_12 hl (by decide) (by simp [List.filter, ct_r, ct_i, ct_l]) (fun ls hl => ?_)
  refine lv_iload hx hb dJ7_compress_14 (lv_at hl 0 rfl) ?_
  refine lv_iload_n hx hb dJ7_compress_16 rfl (lv_at hl 4 rfl) ?_
  refine lv_icmp_eq (tgt := 57) hx hb dJ7_compress_17 (by decide) (fun c3 => ?_) (fun c3 => ?_)
  · replace z := it c3 z
    refine c_aload_n hx hb dJ7_compress_57 rfl (lv_at hl 1 rfl) ?_
    exact c_aret S hr (Or.inr ⟨_, rfl⟩) hlk hH hS z dJ7_compress_58
  replace z := ie c3 z
  refine c_aload_n hx hb dJ7_compress_20 rfl (lv_at hl 2 rfl) ?_
  refine lv_iload_n hx hb dJ7_compress_21 rfl (lv_at hl 3 rfl) ?_
  refine lv_iload_n hx hb dJ7_compress_22 rfl (lv_at hl 4 rfl) ?_
  replace z := ob z
  obtain ⟨x4, zx4, z⟩ := z
  refine c_callq hH hS hRM (fun _ _ f1 f2 => va_runS (As := [va_rf a0, .int a1, .int a2]) (rest := []) S (metJ7_toBytes zx4) (va_cwS 3 hts (lw_S q630 q631 q181 q632) rfl rfl rfl (by decide +kernel) ⟨(Nat.le_of_ble_eq_true rfl), (Nat.le_of_ble_eq_true rfl)⟩) (c_pre hG hH hS) rfl rfl hl.1 rfl (lv_room (Nat.le_of_ble_eq_true rfl)) dJ7_compress_23 ⟨f1, f2⟩) (fun H locs hH hS => ?_)
  refine c_astore (lv' := [(5, va_rf x4), (4, .int x2.2), (3, va_rf (some h.2.1)), (0, va_rf a0), (1, .int a1), (2, .int a2)]) hx hb dJ7_compress_26 hl (by decide) rfl (fun ls hl => ?_)
  refine c_aload hx hb dJ7_compress_28 (lv_at hl 0 rfl) ?_
  refine lv_iload hx hb dJ7_compress_30 (lv_at hl 1 rfl) ?_
  cases z
/-! java/lang/String.<init>([CIILjava/lang/Void;)V -/
def fJ6_init_2 (K : KE) (h : HS) (a0 : Nat) (a1 : Option Nat) (a2 : Int32) (a3 : Int32) (a4 : Option Nat) : Option (HS) :=
  if a3 = 0 then
    none
  else
  if (1 : Int32) = 0 then
    (pV h (some a0) 20 1 (.int (1 : Int32))).bind fun h3 =>
    (fJ7_toBytes K h3 a1 a2 a3).bind fun x4 =>
    (pV h3 (some a0) 20 0 (va_rf x4)).bind fun h5 =>
    some h5
  else
  (fJ7_compress K h a1 a2 a3).bind fun x6 =>
  (fJ7_coderFromArrayLen K x6.1 x6.2 a3).bind fun x7 =>
  (br x7).bind fun g8 =>
  (pV x6.1 (some a0) 20 1 (.int x7)).bind fun h9 =>
  (pV h9 (some a0) 20 0 (va_rf x6.2)).bind fun h10 =>
  some h10
set_option maxHeartbeats 4000000 in
theorem metJ6_init_2 {l : Launch} {A : Nat → Prop} {D : va_G} {ac : Nat → ClassId} {K : KE} {h : HS} {a0 : Nat} {a1 : Option Nat} {a2 : Int32} {a3 : Int32} {a4 : Option Nat} {x : HS} (z : fJ6_init_2 K h a0 a1 a2 a3 a4 = some x) : Met l yJ6_init_2 (ws_ yJ6_init_2 cJ6_init_2 6 (none)) (rmC 3 51 K h) (cP A D ac K h [va_rf (some a0), va_rf a1, .int a2, .int a3, va_rf a4]) (cQv A D ac K x) (K.2.2.1 - h.2.1) (K.2.2.2 - h.2.2) A := by
  refine c_entry (plainFor_of_name (by decide)) (by simp [lg_sl, ct_r, ct_i, ct_l]) ?_
  intro p e s m below meth c S hr hlk hnm hG hRM hH hS ls hl
  replace hl : lv_has ls 6 [(0, va_rf (some a0)), (1, va_rf a1), (2, .int a2), (3, .int a3), (4, va_rf a4)] := (by simpa [lv_args, ct_r, ct_i, ct_l] using hl)
  replace hnm : meth.name = "<init>" := hnm
  replace S : CallFix p m c cJ6_init_2 6 s _ lw_all RJ6 := S
  obtain ⟨hx, hb, hml, hown, hts⟩ := id S
  unfold fJ6_init_2 at z
  refine c_aload_n hx hb dJ6_init_2_0 rfl (lv_at hl 0 rfl) ?_
  refine c_obj S q620 q213 q214 hl.1 (Nat.le_of_ble_eq_true rfl) (Nat.le_of_ble_eq_true rfl) (Nat.le_of_ble_eq_true rfl) dJ6_init_2_1 ?_
  refine lv_iload_n hx hb dJ6_init_2_4 rfl (lv_at hl 3 rfl) ?_
  refine lv_if_ne (tgt := 27) hx hb dJ6_init_2_5 (by decide) (fun c1 => ?_) (fun c1 => ?_)
  rotate_left 1
  · replace z := it c1 z
    refine c_aload_n hx hb dJ6_init_2_8 rfl (lv_at hl 0 rfl) ?_
    cases z
  replace z := ie c1 z
  refine c_getsC S hG hS q622 dJ6_init_2_27 ?_
  refine lv_if_eq (tgt := 58) hx hb dJ6_init_2_30 (by decide) (fun c2 => ?_) (fun c2 => ?_)
  · replace z := it c2 z
    refine c_aload_n hx hb dJ6_init_2_58 rfl (lv_at hl 0 rfl) ?_
    refine lv_iconst (v := (1 : Int32)) hx hb dJ6_init_2_59 (by decide) ?_
    replace z := ob z
    obtain ⟨h3, zh3, z⟩ := z
    refine c_putF S hG hH hS (ci := 20) (k := 1) rfl in_J6 tyJ6 tyJ6_ok nmJ6 (Nat.le_of_ble_eq_true rfl) q674 (fun _ y => y) rfl hnm rfl (ty := .byte) rfl rfl rfl zh3 dJ6_init_2_60 (fun H locs hH hS => ?_)
    refine c_aload_n hx hb dJ6_init_2_63 rfl (lv_at hl 0 rfl) ?_
    refine c_aload_n hx hb dJ6_init_2_64 rfl (lv_at hl 1 rfl) ?_
    refine lv_iload_n hx hb dJ6_init_2_65 rfl (lv_at hl 2 rfl) ?_
    refine lv_iload_n hx hb dJ6_init_2_66 rfl (lv_at hl 3 rfl) ?_
    replace z := ob z
    obtain ⟨x4, zx4, z⟩ := z
    refine c_callq hH hS hRM (fun _ _ f1 f2 => va_runS (As := [va_rf a1, .int a2, .int a3]) (rest := [va_rf (some a0)]) S (metJ7_toBytes zx4) (va_cwS 3 hts (lw_S q672 q631 q181 q632) rfl rfl rfl (by decide +kernel) ⟨(Nat.le_of_ble_eq_true rfl), (Nat.le_of_ble_eq_true rfl)⟩) (c_pre hG hH hS) rfl rfl hl.1 rfl (lv_room (Nat.le_of_ble_eq_true rfl)) dJ6_init_2_67 ⟨f1, f2⟩) (fun H locs hH hS => ?_)
    replace z := ob z
    obtain ⟨h5, zh5, z⟩ := z
    refine c_putF S hG hH hS (ci := 20) (k := 0) rfl in_J6 tyJ6 tyJ6_ok nmJ6 (Nat.le_of_ble_eq_true rfl) q673 (fun _ y => y) rfl hnm rfl (ty := .array .byte) rfl (nr_a _) (ft_a _) zh5 dJ6_init_2_70 (fun H locs hH hS => ?_)
    exact c_vret S hr hlk hH hS z dJ6_init_2_73
  replace z := ie c2 z
  refine c_aload_n hx hb dJ6_init_2_33 rfl (lv_at hl 1 rfl) ?_
  refine lv_iload_n hx hb dJ6_init_2_34 rfl (lv_at hl 2 rfl) ?_
  refine lv_iload_n hx hb dJ6_init_2_35 rfl (lv_at hl 3 rfl) ?_
  replace z := ob z
  obtain ⟨x6, zx6, z⟩ := z
  refine c_callq hH hS hRM (fun _ _ f1 f2 => va_runS (As := [va_rf a1, .int a2, .int a3]) (rest := []) S (metJ7_compress zx6) (va_cwS 3 hts (lw_S q624 q625 q181 q626) rfl rfl rfl (by decide +kernel) ⟨(Nat.le_of_ble_eq_true rfl), (Nat.le_of_ble_eq_true rfl)⟩) (c_pre hG hH hS) rfl rfl hl.1 rfl (lv_room (Nat.le_of_ble_eq_true rfl)) dJ6_init_2_36 ⟨f1, f2⟩) (fun H locs hH hS => ?_)
  refine c_astore (lv' := [(5, va_rf x6.2), (0, va_rf (some a0)), (1, va_rf a1), (2, .int a2), (3, .int a3), (4, va_rf a4)]) hx hb dJ6_init_2_39 hl (by decide) (by simp [List.filter, ct_r, ct_i, ct_l]) (fun ls hl => ?_)
  refine c_aload_n hx hb dJ6_init_2_41 rfl (lv_at hl 1 rfl) ?_
  refine c_aload hx hb dJ6_init_2_42 (lv_at hl 0 rfl) ?_
  refine lv_iload_n hx hb dJ6_init_2_44 rfl (lv_at hl 4 rfl) ?_
  replace z := ob z
  obtain ⟨x7, zx7, z⟩ := z
  refine c_calli hH hS hRM (fun _ _ f1 f2 => va_runS (As := [va_rf x6.2, .int a3]) (rest := [va_rf (some a0)]) S (metJ7_coderFromArrayLen zx7) (va_cwS 2 hts (lw_S q669 q670 q181 q671) rfl rfl rfl (by decide +kernel) ⟨(Nat.le_of_ble_eq_true rfl), (Nat.le_of_ble_eq_true rfl)⟩) (c_pre hG hH hS) rfl rfl hl.1 rfl (lv_room (Nat.le_of_ble_eq_true rfl)) dJ6_init_2_45 ⟨f1, f2⟩) (fun H locs hH hS => ?_)
  replace z := ob z
  obtain ⟨g8, zg8, z⟩ := z
  obtain ⟨yg8, zg8⟩ := br_e zg8
  replace z := ob z
  obtain ⟨h9, zh9, z⟩ := z
  refine c_putF S hG hH hS (ci := 20) (k := 1) rfl in_J6 tyJ6 tyJ6_ok nmJ6 (Nat.le_of_ble_eq_true rfl) q674 (fun _ y => y) rfl hnm rfl (ty := .byte) rfl yg8 zg8 zh9 dJ6_init_2_48 (fun H locs hH hS => ?_)
  refine c_aload_n hx hb dJ6_init_2_51 rfl (lv_at hl 1 rfl) ?_
  refine c_aload hx hb dJ6_init_2_52 (lv_at hl 0 rfl) ?_
  replace z := ob z
  obtain ⟨h10, zh10, z⟩ := z
  refine c_putF S hG hH hS (ci := 20) (k := 0) rfl in_J6 tyJ6 tyJ6_ok nmJ6 (Nat.le_of_ble_eq_true rfl) q673 (fun _ y => y) rfl hnm rfl (ty := .array .byte) rfl (nr_a _) (ft_a _) zh10 dJ6_init_2_54 (fun H locs hH hS => ?_)
  exact c_vret S hr hlk hH hS z dJ6_init_2_57
/-! java/lang/String.<init>([C)V -/
def fJ6_init (K : KE) (h : HS) (a0 : Nat) (a1 : Option Nat) : Option (HS) :=
  (cN K h a1 2).bind fun v1 =>
  (fJ6_init_2 K h a0 a1 (0 : Int32) v1 none).bind fun x2 =>
  some x2
set_option maxHeartbeats 4000000 in
theorem metJ6_init {l : Launch} {A : Nat → Prop} {D : va_G} {ac : Nat → ClassId} {K : KE} {h : HS} {a0 : Nat} {a1 : Option Nat} {x : HS} (z : fJ6_init K h a0 a1 = some x) : Met l yJ6_init (ws_ yJ6_init cJ6_init 2 (none)) (rmC 4 76 K h) (cP A D ac K h [va_rf (some a0), va_rf a1]) (cQv A D ac K x) (K.2.2.1 - h.2.1) (K.2.2.2 - h.2.2) A := by
  refine c_entry (plainFor_of_name (by decide)) (by simp [lg_sl, ct_r, ct_i, ct_l]) ?_
  intro p e s m below meth c S hr hlk hnm hG hRM hH hS ls hl
  replace hl : lv_has ls 2 [(0, va_rf (some a0)), (1, va_rf a1)] := (by simpa [lv_args, ct_r, ct_i, ct_l] using hl)
  replace hnm : meth.name = "<init>" := hnm
  replace S : CallFix p m c cJ6_init 2 s _ lw_all RJ6 := S
  obtain ⟨hx, hb, hml, hown, hts⟩ := id S
  unfold fJ6_init at z
  refine c_aload_n hx hb dJ6_init_0 rfl (lv_at hl 0 rfl) ?_
  refine c_aload_n hx hb dJ6_init_1 rfl (lv_at hl 1 rfl) ?_
  refine lv_iconst (v := (0 : Int32)) hx hb dJ6_init_2 (by decide) ?_
  refine c_aload_n hx hb dJ6_init_3 rfl (lv_at hl 1 rfl) ?_
  replace z := ob z
  obtain ⟨v1, zv1, z⟩ := z
  refine c_alen S hG hH 2 rfl zv1 dJ6_init_4 ?_
  refine c_null hx hb dJ6_init_5 ?_
  replace z := ob z
  obtain ⟨x2, zx2, z⟩ := z
  refine c_callv hH hS hRM (fun _ _ f1 f2 => va_runI (b := a0) (As := [va_rf a1, .int (0 : Int32), .int v1, va_rf none]) (rest := []) S (metJ6_init_2 zx2) (cwI 4 hts (lw_meth q619) rfl rfl rfl (hts _ q180) (hts _ q617) (hts _ q618) rfl (by decide +kernel) ⟨(Nat.le_of_ble_eq_true rfl), (Nat.le_of_ble_eq_true rfl)⟩) (c_pre hG hH hS) rfl rfl hl.1 rfl (lv_room (Nat.le_of_ble_eq_true rfl)) dJ6_init_6 ⟨f1, f2⟩) (fun H locs hH hS => ?_)
  exact c_vret S hr hlk hH hS z dJ6_init_9
/-! java/lang/String.valueOf([C)Ljava/lang/String; -/
def fJ6_valueOf (K : KE) (h : HS) (a0 : Option Nat) : Option (HS × Option Nat) :=
  (alc K h (.inr (20, df20)) 4).bind fun h1 =>
  (fJ6_init K h1 h.2.1 a0).bind fun x2 =>
  some (x2, (some h.2.1))
set_option maxHeartbeats 4000000 in
theorem metJ6_valueOf {l : Launch} {A : Nat → Prop} {D : va_G} {ac : Nat → ClassId} {K : KE} {h : HS} {a0 : Option Nat} {x : HS × Option Nat} (z : fJ6_valueOf K h a0 = some x) : Met l yJ6_valueOf (ws_ yJ6_valueOf cJ6_valueOf 1 (some (.object "java/lang/String"))) (rmC 5 97 K h) (cP A D ac K h [va_rf a0]) (cQq A D ac K x) (K.2.2.1 - h.2.1) (K.2.2.2 - h.2.2) A := by
  refine c_entry (plainFor_of_name (by decide)) (by simp [lg_sl, ct_r, ct_i, ct_l]) ?_
  intro p e s m below meth c S hr hlk hnm hG hRM hH hS ls hl
  replace hl : lv_has ls 1 [(0, va_rf a0)] := (by simpa [lv_args, ct_r, ct_i, ct_l] using hl)
  replace hnm : meth.name = "valueOf" := hnm
  replace S : CallFix p m c cJ6_valueOf 1 s _ lw_all RJ6 := S
  obtain ⟨hx, hb, hml, hown, hts⟩ := id S
  unfold fJ6_valueOf at z
  replace z := ob z
  obtain ⟨h1, zh1, z⟩ := z
  refine c_new S hG hH hS hRM (ci := 20) rfl in_J6 tyJ6 tyJ6_ok q612 q613 q180 df20_ok zh1 dJ6_valueOf_0 (fun H locs hH hS => ?_)
  refine lv_dup hx hb dJ6_valueOf_3 (ct_r _) ?_
  refine c_aload_n hx hb dJ6_valueOf_4 rfl (lv_at hl 0 rfl) ?_
  replace z := ob z
  obtain ⟨x2, zx2, z⟩ := z
  refine c_callv hH hS hRM (fun _ _ f1 f2 => va_runI (b := h.2.1) (As := [va_rf a0]) (rest := [va_rf (some h.2.1)]) S (metJ6_init zx2) (cwI 1 hts (lw_meth q616) rfl rfl rfl (hts _ q180) (hts _ q614) (hts _ q615) rfl (by decide +kernel) ⟨(Nat.le_of_ble_eq_true rfl), (Nat.le_of_ble_eq_true rfl)⟩) (c_pre hG hH hS) rfl rfl hl.1 rfl (lv_room (by simp [ct_r, ct_i, ct_l])) dJ6_valueOf_5 ⟨f1, f2⟩) (fun H locs hH hS => ?_)
  exact c_aret S hr (Or.inl ⟨_, rfl⟩) hlk hH hS z dJ6_valueOf_8
/-! java/lang/String.isLatin1()Z -/
def fJ6_isLatin1 (K : KE) (h : HS) (a0 : Nat) : Option (Int32) :=
  if (1 : Int32) = 0 then
    some (0 : Int32)
  else
  (gI K h (some a0) 20 1).bind fun v2 =>
  if v2 = 0 then
    some (1 : Int32)
  else
  some (0 : Int32)
set_option maxHeartbeats 4000000 in
theorem metJ6_isLatin1 {l : Launch} {A : Nat → Prop} {D : va_G} {ac : Nat → ClassId} {K : KE} {h : HS} {a0 : Nat} {x : Int32} (z : fJ6_isLatin1 K h a0 = some x) : Met l yJ6_isLatin1 (ws_ yJ6_isLatin1 cJ6_isLatin1 1 (some .boolean)) (rmC 1 0 K h) (cP A D ac K h [va_rf (some a0)]) (cQi A D ac K (h, x)) (K.2.2.1 - h.2.1) (K.2.2.2 - h.2.2) A := by
  refine c_entry (plainFor_of_name (by decide)) (Nat.le_of_ble_eq_true rfl) ?_
  intro p e s m below meth c S hr hlk hnm hG hRM hH hS ls hl
  replace hl : lv_has ls 1 [(0, va_rf (some a0))] := hl
  replace hnm : meth.name = "isLatin1" := hnm
  replace S : CallFix p m c cJ6_isLatin1 1 s _ lw_all RJ6 := S
  obtain ⟨hx, hb, hml, hown, hts⟩ := id S
  unfold fJ6_isLatin1 at z
  refine c_getsC S hG hS q622 dJ6_isLatin1_0 ?_
  refine lv_if_eq (tgt := 17) hx hb dJ6_isLatin1_3 (by decide) (fun c1 => ?_) (fun c1 => ?_)
  · replace z := it c1 z
    refine lv_iconst (v := (0 : Int32)) hx hb dJ6_isLatin1_17 (by decide) ?_
    exact c_iret' S hr hlk rfl hH hS z dJ6_isLatin1_18
  replace z := ie c1 z
  refine c_aload_n hx hb dJ6_isLatin1_6 rfl (lv_at hl 0 rfl) ?_
  replace z := ob z
  obtain ⟨v2, zv2, z⟩ := z
  obtain ⟨fsv2, yv2, zv2⟩ := gI_e zv2
  refine c_get S hG hH (ci := 20) (k := 1) rfl in_J6 (Nat.le_of_ble_eq_true rfl) q674 (fun _ y => y) yv2 zv2 dJ6_isLatin1_7 ?_
  refine lv_if_ne (tgt := 17) hx hb dJ6_isLatin1_10 (by decide) (fun c3 => ?_) (fun c3 => ?_)
  · replace z := ie c3 z
    refine lv_iconst (v := (0 : Int32)) hx hb dJ6_isLatin1_17 (by decide) ?_
    exact c_iret' S hr hlk rfl hH hS z dJ6_isLatin1_18
  replace z := it c3 z
  refine lv_iconst (v := (1 : Int32)) hx hb dJ6_isLatin1_13 (by decide) ?_
  refine lv_goto (tgt := 18) hx hb dJ6_isLatin1_14 (by decide) ?_
  exact c_iret' S hr hlk rfl hH hS z dJ6_isLatin1_18
/-! java/lang/StringLatin1.hashCode([B)I -/
def fJ9_hashCode (K : KE) (h : HS) (a0 : Option Nat) : Option (Int32) :=
  (cN K h a0 3).bind fun v1 =>
  if v1 = 0 then
    some (0 : Int32)
  else
  if v1 = 1 then
    (cI K h a0 3 (0 : Int32)).bind fun v3 =>
    some (v3 &&& (255 : Int32))
  else
  (cN K h a0 3).bind fun v5 =>
  (fJ10_vectorizedHashCode K h a0 (0 : Int32) v5 (0 : Int32) (4 : Int32)).bind fun x6 =>
  some x6
set_option maxHeartbeats 4000000 in
theorem metJ9_hashCode {l : Launch} {A : Nat → Prop} {D : va_G} {ac : Nat → ClassId} {K : KE} {h : HS} {a0 : Option Nat} {x : Int32} (z : fJ9_hashCode K h a0 = some x) : Met l yJ9_hashCode (ws_ yJ9_hashCode cJ9_hashCode 1 (some .int)) (rmC 3 49 K h) (cP A D ac K h [va_rf a0]) (cQi A D ac K (h, x)) (K.2.2.1 - h.2.1) (K.2.2.2 - h.2.2) A := by
  refine c_entry (plainFor_of_name (by decide)) (by simp [lg_sl, ct_r, ct_i, ct_l]) ?_
  intro p e s m below meth c S hr hlk hnm hG hRM hH hS ls hl
  replace hl : lv_has ls 1 [(0, va_rf a0)] := (by simpa [lv_args, ct_r, ct_i, ct_l] using hl)
  replace hnm : meth.name = "hashCode" := hnm
  replace S : CallFix p m c cJ9_hashCode 1 s _ lw_all RJ9 := S
  obtain ⟨hx, hb, hml, hown, hts⟩ := id S
  unfold fJ9_hashCode at z
  refine c_aload_n hx hb dJ9_hashCode_0 rfl (lv_at hl 0 rfl) ?_
  replace z := ob z
  obtain ⟨v1, zv1, z⟩ := z
  refine c_alen S hG hH 3 rfl zv1 dJ9_hashCode_1 ?_
  by_cases c2 : v1 = 0
  · replace z := it c2 z
    refine lv_lookup (off := 26) (tgt := 28) hx hb dJ9_hashCode_2 (by decide) (by rw [c2]; rfl) (by decide) ?_
    refine lv_iconst (v := (0 : Int32)) hx hb dJ9_hashCode_28 (by decide) ?_
    refine lv_goto (tgt := 51) hx hb dJ9_hashCode_29 (by decide) ?_
    exact c_iret' S hr hlk rfl hH hS z dJ9_hashCode_51
  replace z := ie c2 z
  by_cases c4 : v1 = 1
  · replace z := it c4 z
    refine lv_lookup (off := 30) (tgt := 32) hx hb dJ9_hashCode_2 (by decide) (by rw [c4]; rfl) (by decide) ?_
    refine c_aload_n hx hb dJ9_hashCode_32 rfl (lv_at hl 0 rfl) ?_
    refine lv_iconst (v := (0 : Int32)) hx hb dJ9_hashCode_33 (by decide) ?_
    replace z := ob z
    obtain ⟨v3, zv3, z⟩ := z
    refine c_bald S hG hH zv3 dJ9_hashCode_34 ?_
    refine lv_sipush (v := (255 : Int32)) hx hb dJ9_hashCode_35 (by decide) ?_
    refine lv_iand hx hb dJ9_hashCode_38 ?_
    refine lv_goto (tgt := 51) hx hb dJ9_hashCode_39 (by decide) ?_
    exact c_iret' S hr hlk rfl hH hS z dJ9_hashCode_51
  replace z := ie c4 z
  refine lv_lookup (off := 40) (tgt := 42) hx hb dJ9_hashCode_2 (by decide) (by show Op.lookupswitch.offset [(0, 26), (1, 30)] 40 _ = 40; rw [lv_osw (a := 0) c2 (by decide), lv_osw (a := 1) c4 (by decide)]; rfl) (by decide) ?_
  refine c_aload_n hx hb dJ9_hashCode_42 rfl (lv_at hl 0 rfl) ?_
  refine lv_iconst (v := (0 : Int32)) hx hb dJ9_hashCode_43 (by decide) ?_
  refine c_aload_n hx hb dJ9_hashCode_44 rfl (lv_at hl 0 rfl) ?_
  replace z := ob z
  obtain ⟨v5, zv5, z⟩ := z
  refine c_alen S hG hH 3 rfl zv5 dJ9_hashCode_45 ?_
  refine lv_iconst (v := (0 : Int32)) hx hb dJ9_hashCode_46 (by decide) ?_
  refine lv_iconst (v := (4 : Int32)) hx hb dJ9_hashCode_47 (by decide) ?_
  replace z := ob z
  obtain ⟨x6, zx6, z⟩ := z
  refine c_calli hH hS hRM (fun _ _ f1 f2 => va_runS (As := [va_rf a0, .int (0 : Int32), .int v5, .int (0 : Int32), .int (4 : Int32)]) (rest := []) S (metJ10_vectorizedHashCode zx6) (va_cwS 5 hts (lw_S q702 q703 q184 q704) rfl rfl rfl (by decide +kernel) ⟨(Nat.le_of_ble_eq_true rfl), (Nat.le_of_ble_eq_true rfl)⟩) (c_pre hG hH hS) rfl rfl hl.1 rfl (lv_room (Nat.le_of_ble_eq_true rfl)) dJ9_hashCode_48 ⟨f1, f2⟩) (fun H locs hH hS => ?_)
  exact c_iret' S hr hlk rfl hH hS z dJ9_hashCode_51
/-! java/lang/String.hashCode()I -/
def fJ6_hashCode_40 (K : KE) (a0 : Nat) (h : HS) (t0 : Int32) : Option (HS × Int32) :=
  if t0 = 0 then
    (pV h (some a0) 20 3 (.int (1 : Int32))).bind fun h3 =>
    some (h3, t0)
  else
  (pV h (some a0) 20 2 (.int t0)).bind fun h2 =>
  some (h2, t0)
def fJ6_hashCode (K : KE) (h : HS) (a0 : Nat) : Option (HS × Int32) :=
  (gI K h (some a0) 20 2).bind fun v1 =>
  if v1 = 0 then
    (gI K h (some a0) 20 3).bind fun v3 =>
    if v3 = 0 then
      (rcv K h (some a0) 20).bind fun b5 =>
      (fJ6_isLatin1 K h b5).bind fun x6 =>
      if x6 = 0 then
        (gR K h (some a0) 20 0).bind fun v8 =>
        none
      else
      (gR K h (some a0) 20 0).bind fun v9 =>
      (fJ9_hashCode K h v9).bind fun x10 =>
      fJ6_hashCode_40 K a0 h x10
    else
    some (h, v1)
  else
  some (h, v1)
set_option maxHeartbeats 4000000 in
theorem wJ6_hashCode_40 {p : Program} {l : Launch} {e : Env} {s : State} {m : MethodId} {args : Array Value} {below : List Frame} {meth : Method} {c : Code} {A : Nat → Prop} {D : va_G} {ac : Nat → ClassId} {K : KE} {h0 : HS} {a0 : Nat} (S : CallFix p m c cJ6_hashCode 2 s args lw_all RJ6) (hr : meth.sig.returnType = some .int) (hlk : meth.locks = false) (hnm : meth.name = "hashCode") (hG : GK A D ac K s) (hRM : RM K s (rmC 4 69 K h0)) {x : HS × Int32} : ∀ (h : HS) (t0 : Int32), fJ6_hashCode_40 K a0 h t0 = some x → cGo p l e (rmC 4 69 K h0) s m args below meth c A D ac K (MQ below (cQi A D ac K x) args s (K.2.2.1 - h0.2.1) (K.2.2.2 - h0.2.2) A) 2 40 [(0, va_rf (some a0))] [.int t0] h := by
  obtain ⟨hx, hb, hml, hown, hts⟩ := id S
  intro h t0 z H locs hH hS ls hl
  unfold fJ6_hashCode_40 at z
  refine lv_istore_n (lv' := [(1, .int t0), (0, va_rf (some a0))]) hx hb dJ6_hashCode_40 rfl hl (by decide) rfl (fun ls hl => ?_)
  refine lv_iload_n hx hb dJ6_hashCode_41 rfl (lv_at hl 0 rfl) ?_
  refine lv_if_ne (tgt := 53) hx hb dJ6_hashCode_42 (by decide) (fun c1 => ?_) (fun c1 => ?_)
  · replace z := ie c1 z
    refine c_aload_n hx hb dJ6_hashCode_53 rfl (lv_at hl 1 rfl) ?_
    refine lv_iload_n hx hb dJ6_hashCode_54 rfl (lv_at hl 0 rfl) ?_
    replace z := ob z
    obtain ⟨h2, zh2, z⟩ := z
    refine c_put S hG hH hS (ci := 20) (k := 2) rfl in_J6 tyJ6 tyJ6_ok nmJ6 (Nat.le_of_ble_eq_true rfl) q675 (fun _ y => y) rfl (ty := .int) rfl rfl rfl zh2 dJ6_hashCode_55 (fun H locs hH hS => ?_)
    refine lv_iload_n hx hb dJ6_hashCode_58 rfl (lv_at hl 0 rfl) ?_
    exact c_iret S hr hlk rfl hH hS z dJ6_hashCode_59
  replace z := it c1 z
  refine c_aload_n hx hb dJ6_hashCode_45 rfl (lv_at hl 1 rfl) ?_
  refine lv_iconst (v := (1 : Int32)) hx hb dJ6_hashCode_46 (by decide) ?_
  replace z := ob z
  obtain ⟨h3, zh3, z⟩ := z
  refine c_put S hG hH hS (ci := 20) (k := 3) rfl in_J6 tyJ6 tyJ6_ok nmJ6 (Nat.le_of_ble_eq_true rfl) q676 (fun _ y => y) rfl (ty := .boolean) rfl rfl rfl zh3 dJ6_hashCode_47 (fun H locs hH hS => ?_)
  refine lv_goto (tgt := 58) hx hb dJ6_hashCode_50 (by decide) ?_
  refine lv_iload_n hx hb dJ6_hashCode_58 rfl (lv_at hl 0 rfl) ?_
  exact c_iret S hr hlk rfl hH hS z dJ6_hashCode_59
set_option maxHeartbeats 4000000 in
theorem metJ6_hashCode {l : Launch} {A : Nat → Prop} {D : va_G} {ac : Nat → ClassId} {K : KE} {h : HS} {a0 : Nat} {x : HS × Int32} (z : fJ6_hashCode K h a0 = some x) : Met l yJ6_hashCode (ws_ yJ6_hashCode cJ6_hashCode 2 (some .int)) (rmC 4 69 K h) (cP A D ac K h [va_rf (some a0)]) (cQi A D ac K x) (K.2.2.1 - h.2.1) (K.2.2.2 - h.2.2) A := by
  refine c_entry (plainFor_of_name (by decide)) (Nat.le_of_ble_eq_true rfl) ?_
  intro p e s m below meth c S hr hlk hnm hG hRM hH hS ls hl
  replace hl : lv_has ls 2 [(0, va_rf (some a0))] := hl
  replace hnm : meth.name = "hashCode" := hnm
  replace S : CallFix p m c cJ6_hashCode 2 s _ lw_all RJ6 := S
  obtain ⟨hx, hb, hml, hown, hts⟩ := id S
  unfold fJ6_hashCode at z
  refine c_aload_n hx hb dJ6_hashCode_0 rfl (lv_at hl 0 rfl) ?_
  replace z := ob z
  obtain ⟨v1, zv1, z⟩ := z
  obtain ⟨fsv1, yv1, zv1⟩ := gI_e zv1
  refine c_get S hG hH (ci := 20) (k := 2) rfl in_J6 (Nat.le_of_ble_eq_true rfl) q675 (fun _ y => y) yv1 zv1 dJ6_hashCode_1 ?_
  refine lv_istore_n (lv' := [(1, .int v1), (0, va_rf (some a0))]) hx hb dJ6_hashCode_4 rfl hl (by decide) rfl (fun ls hl => ?_)
  refine lv_iload_n hx hb dJ6_hashCode_5 rfl (lv_at hl 0 rfl) ?_
  refine lv_if_ne (tgt := 58) hx hb dJ6_hashCode_6 (by decide) (fun c2 => ?_) (fun c2 => ?_)
  · replace z := ie c2 z
    refine lv_iload_n hx hb dJ6_hashCode_58 rfl (lv_at hl 0 rfl) ?_
    exact c_iret S hr hlk rfl hH hS z dJ6_hashCode_59
  replace z := it c2 z
  refine c_aload_n hx hb dJ6_hashCode_9 rfl (lv_at hl 1 rfl) ?_
  replace z := ob z
  obtain ⟨v3, zv3, z⟩ := z
  obtain ⟨fsv3, yv3, zv3⟩ := gI_e zv3
  refine c_get S hG hH (ci := 20) (k := 3) rfl in_J6 (Nat.le_of_ble_eq_true rfl) q676 (fun _ y => y) yv3 zv3 dJ6_hashCode_10 ?_
  refine lv_if_ne (tgt := 58) hx hb dJ6_hashCode_13 (by decide) (fun c4 => ?_) (fun c4 => ?_)
  · replace z := ie c4 z
    refine lv_iload_n hx hb dJ6_hashCode_58 rfl (lv_at hl 0 rfl) ?_
    exact c_iret S hr hlk rfl hH hS z dJ6_hashCode_59
  replace z := it c4 z
  refine c_aload_n hx hb dJ6_hashCode_16 rfl (lv_at hl 1 rfl) ?_
  replace z := ob z
  obtain ⟨b5, zb5, z⟩ := z
  obtain ⟨yb5, zb5⟩ := rcv_e zb5
  replace z := ob z
  obtain ⟨x6, zx6, z⟩ := z
  refine c_calli hH hS hRM (fun _ _ f1 f2 => va_runV (b := b5) (As := []) (rest := []) S (metJ6_isLatin1 zx6) (cwV 0 hts (lw_V q695 q696 q697 q180 q698) rfl rfl rfl (by decide +kernel) ⟨(Nat.le_of_ble_eq_true rfl), (Nat.le_of_ble_eq_true rfl)⟩) (c_preV hG hH hS (ci := 20) rfl zb5) rfl rfl hl.1 (by rw [yb5]; rfl) (lv_room (Nat.le_of_ble_eq_true rfl)) dJ6_hashCode_17 ⟨f1, f2⟩) (fun H locs hH hS => ?_)
  refine lv_if_eq (tgt := 33) hx hb dJ6_hashCode_20 (by decide) (fun c7 => ?_) (fun c7 => ?_)
  · replace z := it c7 z
    refine c_aload_n hx hb dJ6_hashCode_33 rfl (lv_at hl 1 rfl) ?_
    replace z := ob z
    obtain ⟨v8, zv8, z⟩ := z
    obtain ⟨fsv8, yv8, zv8⟩ := gR_e zv8
    refine c_get S hG hH (ci := 20) (k := 0) rfl in_J6 (Nat.le_of_ble_eq_true rfl) q673 (fun _ y => y) yv8 zv8 dJ6_hashCode_34 ?_
    cases z
  replace z := ie c7 z
  refine c_aload_n hx hb dJ6_hashCode_23 rfl (lv_at hl 1 rfl) ?_
  replace z := ob z
  obtain ⟨v9, zv9, z⟩ := z
  obtain ⟨fsv9, yv9, zv9⟩ := gR_e zv9
  refine c_get S hG hH (ci := 20) (k := 0) rfl in_J6 (Nat.le_of_ble_eq_true rfl) q673 (fun _ y => y) yv9 zv9 dJ6_hashCode_24 ?_
  replace z := ob z
  obtain ⟨x10, zx10, z⟩ := z
  refine c_calli hH hS hRM (fun _ _ f1 f2 => va_runS (As := [va_rf v9]) (rest := []) S (metJ9_hashCode zx10) (va_cwS 1 hts (lw_S q699 q700 q183 q701) rfl rfl rfl (by decide +kernel) ⟨(Nat.le_of_ble_eq_true rfl), (Nat.le_of_ble_eq_true rfl)⟩) (c_pre hG hH hS) rfl rfl hl.1 rfl (lv_room (Nat.le_of_ble_eq_true rfl)) dJ6_hashCode_27 ⟨f1, f2⟩) (fun H locs hH hS => ?_)
  refine lv_goto (tgt := 40) hx hb dJ6_hashCode_30 (by decide) ?_
  exact wJ6_hashCode_40 S hr hlk hnm hG hRM h x10 z _ _ hH hS _ (lv_sub hl [1] rfl)
/-! java/lang/StringLatin1.equals([B[B)Z -/
def fJ9_equals_9 (K : KE) (h : HS) : Nat → Option Nat → Option Nat → Int32 → Option (Int32)
  | 0, _, _, _ => none
  | n + 1, a0, a1, a2 =>
    (cN K h a0 3).bind fun v1 =>
    if v1 ≤ a2 then
      some (1 : Int32)
    else
    (cI K h a0 3 a2).bind fun v3 =>
    (cI K h a1 3 a2).bind fun v4 =>
    if v3 = v4 then
      fJ9_equals_9 K h n a0 a1 (a2 + (1 : Int32))
    else
    some (0 : Int32)
def fJ9_equals (K : KE) (h : HS) (a0 : Option Nat) (a1 : Option Nat) : Option (Int32) :=
  (cN K h a0 3).bind fun v1 =>
  (cN K h a1 3).bind fun v2 =>
  if v1 = v2 then
    fJ9_equals_9 K h FU a0 a1 (0 : Int32)
  else
  some (0 : Int32)
set_option maxHeartbeats 4000000 in
theorem wJ9_equals_9 {p : Program} {l : Launch} {e : Env} {s : State} {m : MethodId} {args : Array Value} {below : List Frame} {meth : Method} {c : Code} {A : Nat → Prop} {D : va_G} {ac : Nat → ClassId} {K : KE} {h : HS} (S : CallFix p m c cJ9_equals 3 s args lw_all RJ9) (hr : meth.sig.returnType = some .boolean) (hlk : meth.locks = false) (hnm : meth.name = "equals") (hG : GK A D ac K s) (hRM : RM K s (rmC 1 0 K h)) {x : Int32} : ∀ (n : Nat) (a0 : Option Nat) (a1 : Option Nat) (a2 : Int32), fJ9_equals_9 K h n a0 a1 a2 = some x → cGo p l e (rmC 1 0 K h) s m args below meth c A D ac K (MQ below (cQi A D ac K (h, x)) args s (K.2.2.1 - h.2.1) (K.2.2.2 - h.2.2) A) 3 9 [(0, va_rf a0), (1, va_rf a1), (2, .int a2)] [] h := by
  obtain ⟨hx, hb, hml, hown, hts⟩ := id S
  intro n
  induction n with
  | zero => intro a0 a1 a2 z; cases z
  | succ n ih =>
    intro a0 a1 a2 z H locs hH hS ls hl
    rw [fJ9_equals_9] at z
    refine lv_iload_n hx hb dJ9_equals_9 rfl (lv_at hl 2 rfl) ?_
    refine c_aload_n hx hb dJ9_equals_10 rfl (lv_at hl 0 rfl) ?_
    replace z := ob z
    obtain ⟨v1, zv1, z⟩ := z
    refine c_alen S hG hH 3 rfl zv1 dJ9_equals_11 ?_
    refine lv_icmp_ge (tgt := 32) hx hb dJ9_equals_12 (by decide) (fun c2 => ?_) (fun c2 => ?_)
    · replace z := it c2 z
      refine lv_iconst (v := (1 : Int32)) hx hb dJ9_equals_32 (by decide) ?_
      exact c_iret' S hr hlk rfl hH hS z dJ9_equals_33
    replace z := ie c2 z
    refine c_aload_n hx hb dJ9_equals_15 rfl (lv_at hl 0 rfl) ?_
    refine lv_iload_n hx hb dJ9_equals_16 rfl (lv_at hl 2 rfl) ?_
    replace z := ob z
    obtain ⟨v3, zv3, z⟩ := z
    refine c_bald S hG hH zv3 dJ9_equals_17 ?_
    refine c_aload_n hx hb dJ9_equals_18 rfl (lv_at hl 1 rfl) ?_
    refine lv_iload_n hx hb dJ9_equals_19 rfl (lv_at hl 2 rfl) ?_
    replace z := ob z
    obtain ⟨v4, zv4, z⟩ := z
    refine c_bald S hG hH zv4 dJ9_equals_20 ?_
    refine lv_icmp_eq (tgt := 26) hx hb dJ9_equals_21 (by decide) (fun c5 => ?_) (fun c5 => ?_)
    rotate_left 1
    · replace z := ie c5 z
      refine lv_iconst (v := (0 : Int32)) hx hb dJ9_equals_24 (by decide) ?_
      exact c_iret' S hr hlk rfl hH hS z dJ9_equals_25
    replace z := it c5 z
    refine lv_iinc (v := (a2 + (1 : Int32))) (lv' := [(2, .int (a2 + (1 : Int32))), (0, va_rf a0), (1, va_rf a1)]) hx hb dJ9_equals_26 hl (k := 2) rfl rfl (by decide) (by simp [List.filter, ct_r]) (fun ls hl => ?_)
    refine lv_goto (tgt := 9) hx hb dJ9_equals_29 (by decide) ?_
    exact ih a0 a1 (a2 + (1 : Int32)) z _ _ hH hS _ (lv_sub hl [1, 2, 0] rfl)
set_option maxHeartbeats 4000000 in
theorem metJ9_equals {l : Launch} {A : Nat → Prop} {D : va_G} {ac : Nat → ClassId} {K : KE} {h : HS} {a0 : Option Nat} {a1 : Option Nat} {x : Int32} (z : fJ9_equals K h a0 a1 = some x) : Met l yJ9_equals (ws_ yJ9_equals cJ9_equals 3 (some .boolean)) (rmC 1 0 K h) (cP A D ac K h [va_rf a0, va_rf a1]) (cQi A D ac K (h, x)) (K.2.2.1 - h.2.1) (K.2.2.2 - h.2.2) A := by
  refine c_entry (plainFor_of_name (by decide)) (by simp [lg_sl, ct_r, ct_i, ct_l]) ?_
  intro p e s m below meth c S hr hlk hnm hG hRM hH hS ls hl
  replace hl : lv_has ls 3 [(0, va_rf a0), (1, va_rf a1)] := (by simpa [lv_args, ct_r, ct_i, ct_l] using hl)
  replace hnm : meth.name = "equals" := hnm
  replace S : CallFix p m c cJ9_equals 3 s _ lw_all RJ9 := S
  obtain ⟨hx, hb, hml, hown, hts⟩ := id S
  unfold fJ9_equals at z
  refine c_aload_n hx hb dJ9_equals_0 rfl (lv_at hl 0 rfl) ?_
  replace z := ob z
  obtain ⟨v1, zv1, z⟩ := z
  refine c_alen S hG hH 3 rfl zv1 dJ9_equals_1 ?_
  refine c_aload_n hx hb dJ9_equals_2 rfl (lv_at hl 1 rfl) ?_
  replace z := ob z
  obtain ⟨v2, zv2, z⟩ := z
  refine c_alen S hG hH 3 rfl zv2 dJ9_equals_3 ?_
  refine lv_icmp_ne (tgt := 34) hx hb dJ9_equals_4 (by decide) (fun c3 => ?_) (fun c3 => ?_)
  · replace z := ie c3 z
    refine lv_iconst (v := (0 : Int32)) hx hb dJ9_equals_34 (by decide) ?_
    exact c_iret' S hr hlk rfl hH hS z dJ9_equals_35
  replace z := it c3 z
  refine lv_iconst (v := (0 : Int32)) hx hb dJ9_equals_7 (by decide) ?_
  refine lv_istore_n (i := 2) (lv' := [(2, .int (0 : Int32)), (0, va_rf a0), (1, va_rf a1)]) hx hb dJ9_equals_8 rfl hl (by decide) (by simp [List.filter, ct_r, ct_i, ct_l]) (fun ls hl => ?_)
  exact wJ9_equals_9 S hr hlk hnm hG hRM FU a0 a1 (0 : Int32) z _ _ hH hS _ (lv_sub hl [1, 2, 0] rfl)
/-! java/lang/String.equals(Ljava/lang/Object;)Z -/
def fJ6_equals_36 (K : KE) (h : HS) (a0 : Nat) (a2 : Option Nat) : Option (Int32) :=
  (gR K h (some a0) 20 0).bind fun v1 =>
  (gR K h a2 20 0).bind fun v2 =>
  (fJ9_equals K h v1 v2).bind fun x3 =>
  if x3 = 0 then
    some (0 : Int32)
  else
  some (1 : Int32)
def fJ6_equals (K : KE) (h : HS) (a0 : Nat) (a1 : Option Nat) : Option (Int32) :=
  if (some a0) = a1 then
    some (1 : Int32)
  else
  (rcv K h a1 20).bind fun b2 =>
  if (1 : Int32) = 0 then
    some (0 : Int32)
  else
  (ckL K h a1 [20]).bind fun u4 =>
  if (1 : Int32) = 0 then
    fJ6_equals_36 K h a0 a1
  else
  (gI K h (some a0) 20 1).bind fun v6 =>
  (gI K h a1 20 1).bind fun v7 =>
  if v6 = v7 then
    fJ6_equals_36 K h a0 a1
  else
  some (0 : Int32)
set_option maxHeartbeats 4000000 in
theorem wJ6_equals_36 {p : Program} {l : Launch} {e : Env} {s : State} {m : MethodId} {args : Array Value} {below : List Frame} {meth : Method} {c : Code} {A : Nat → Prop} {D : va_G} {ac : Nat → ClassId} {K : KE} {h : HS} {a0 : Nat} (S : CallFix p m c cJ6_equals 3 s args lw_all RJ6) (hr : meth.sig.returnType = some .boolean) (hlk : meth.locks = false) (hnm : meth.name = "equals") (hG : GK A D ac K s) (hRM : RM K s (rmC 2 22 K h)) {x : Int32} : ∀ (a2 : Option Nat), fJ6_equals_36 K h a0 a2 = some x → cGo p l e (rmC 2 22 K h) s m args below meth c A D ac K (MQ below (cQi A D ac K (h, x)) args s (K.2.2.1 - h.2.1) (K.2.2.2 - h.2.2) A) 3 36 [(0, va_rf (some a0)), (2, va_rf a2)] [] h := by
  obtain ⟨hx, hb, hml, hown, hts⟩ := id S
  intro a2 z H locs hH hS ls hl
  unfold fJ6_equals_36 at z
  refine c_aload_n hx hb dJ6_equals_36 rfl (lv_at hl 0 rfl) ?_
  replace z := ob z
  obtain ⟨v1, zv1, z⟩ := z
  obtain ⟨fsv1, yv1, zv1⟩ := gR_e zv1
  refine c_get S hG hH (ci := 20) (k := 0) rfl in_J6 (Nat.le_of_ble_eq_true rfl) q673 (fun _ y => y) yv1 zv1 dJ6_equals_37 ?_
  refine c_aload_n hx hb dJ6_equals_40 rfl (lv_at hl 1 rfl) ?_
  replace z := ob z
  obtain ⟨v2, zv2, z⟩ := z
  obtain ⟨fsv2, yv2, zv2⟩ := gR_e zv2
  refine c_get S hG hH (ci := 20) (k := 0) rfl in_J6 (Nat.le_of_ble_eq_true rfl) q673 (fun _ y => y) yv2 zv2 dJ6_equals_41 ?_
  replace z := ob z
  obtain ⟨x3, zx3, z⟩ := z
  refine c_calli hH hS hRM (fun _ _ f1 f2 => va_runS (As := [va_rf v1, va_rf v2]) (rest := []) S (metJ9_equals zx3) (va_cwS 2 hts (lw_S q749 q750 q183 q751) rfl rfl rfl (by decide +kernel) ⟨(Nat.le_of_ble_eq_true rfl), (Nat.le_of_ble_eq_true rfl)⟩) (c_pre hG hH hS) rfl rfl hl.1 rfl (lv_room (Nat.le_of_ble_eq_true rfl)) dJ6_equals_44 ⟨f1, f2⟩) (fun H locs hH hS => ?_)
  refine lv_if_eq (tgt := 54) hx hb dJ6_equals_47 (by decide) (fun c4 => ?_) (fun c4 => ?_)
  · replace z := it c4 z
    refine lv_iconst (v := (0 : Int32)) hx hb dJ6_equals_54 (by decide) ?_
    exact c_iret' S hr hlk rfl hH hS z dJ6_equals_55
  replace z := ie c4 z
  refine lv_iconst (v := (1 : Int32)) hx hb dJ6_equals_50 (by decide) ?_
  refine lv_goto (tgt := 55) hx hb dJ6_equals_51 (by decide) ?_
  exact c_iret' S hr hlk rfl hH hS z dJ6_equals_55
set_option maxHeartbeats 4000000 in
theorem metJ6_equals {l : Launch} {A : Nat → Prop} {D : va_G} {ac : Nat → ClassId} {K : KE} {h : HS} {a0 : Nat} {a1 : Option Nat} {x : Int32} (z : fJ6_equals K h a0 a1 = some x) : Met l yJ6_equals (ws_ yJ6_equals cJ6_equals 3 (some .boolean)) (rmC 2 22 K h) (cP A D ac K h [va_rf (some a0), va_rf a1]) (cQi A D ac K (h, x)) (K.2.2.1 - h.2.1) (K.2.2.2 - h.2.2) A := by
  refine c_entry (plainFor_of_name (by decide)) (by simp [lg_sl, ct_r, ct_i, ct_l]) ?_
  intro p e s m below meth c S hr hlk hnm hG hRM hH hS ls hl
  replace hl : lv_has ls 3 [(0, va_rf (some a0)), (1, va_rf a1)] := (by simpa [lv_args, ct_r, ct_i, ct_l] using hl)
  replace hnm : meth.name = "equals" := hnm
  replace S : CallFix p m c cJ6_equals 3 s _ lw_all RJ6 := S
  obtain ⟨hx, hb, hml, hown, hts⟩ := id S
  unfold fJ6_equals at z
  refine c_aload_n hx hb dJ6_equals_0 rfl (lv_at hl 0 rfl) ?_
  refine c_aload_n hx hb dJ6_equals_1 rfl (lv_at hl 1 rfl) ?_
  refine lv_acmp_ne (tgt := 7) hx hb dJ6_equals_2 (by decide) (fun c1 => ?_) (fun c1 => ?_)
  rotate_left 1
  · replace z := it c1 z
    refine lv_iconst (v := (1 : Int32)) hx hb dJ6_equals_5 (by decide) ?_
    exact c_iret' S hr hlk rfl hH hS z dJ6_equals_6
  replace z := ie c1 z
  refine c_aload_n hx hb dJ6_equals_7 rfl (lv_at hl 1 rfl) ?_
  replace z := ob z
  obtain ⟨b2, zb2, z⟩ := z
  refine c_instS S hG hH (ci := 20) rfl q612 zb2 dJ6_equals_8 ?_
  refine lv_if_eq (tgt := 54) hx hb dJ6_equals_11 (by decide) (fun c3 => ?_) (fun c3 => ?_)
  · replace z := it c3 z
    refine lv_iconst (v := (0 : Int32)) hx hb dJ6_equals_54 (by decide) ?_
    exact c_iret' S hr hlk rfl hH hS z dJ6_equals_55
  replace z := ie c3 z
  refine c_aload_n hx hb dJ6_equals_14 rfl (lv_at hl 1 rfl) ?_
  replace z := ob z
  obtain ⟨u4, zu4, z⟩ := z
  refine c_castL S hG hH q612 [20] cast_String zu4 dJ6_equals_15 ?_
  refine c_astore_n (i := 2) (lv' := [(2, va_rf a1), (0, va_rf (some a0)), (1, va_rf a1)]) hx hb dJ6_equals_18 rfl hl (by decide) (by simp [List.filter, ct_r, ct_i, ct_l]) (fun ls hl => ?_)
  refine c_getsC S hG hS q622 dJ6_equals_19 ?_
  refine lv_if_eq (tgt := 36) hx hb dJ6_equals_22 (by decide) (fun c5 => ?_) (fun c5 => ?_)
  · replace z := it c5 z
    exact wJ6_equals_36 S hr hlk hnm hG hRM a1 z _ _ hH hS _ (lv_sub hl [1, 0] rfl)
  replace z := ie c5 z
  refine c_aload_n hx hb dJ6_equals_25 rfl (lv_at hl 1 rfl) ?_
  replace z := ob z
  obtain ⟨v6, zv6, z⟩ := z
  obtain ⟨fsv6, yv6, zv6⟩ := gI_e zv6
  refine c_get S hG hH (ci := 20) (k := 1) rfl in_J6 (Nat.le_of_ble_eq_true rfl) q674 (fun _ y => y) yv6 zv6 dJ6_equals_26 ?_
  refine c_aload_n hx hb dJ6_equals_29 rfl (lv_at hl 0 rfl) ?_
  replace z := ob z
  obtain ⟨v7, zv7, z⟩ := z
  obtain ⟨fsv7, yv7, zv7⟩ := gI_e zv7
  refine c_get S hG hH (ci := 20) (k := 1) rfl in_J6 (Nat.le_of_ble_eq_true rfl) q674 (fun _ y => y) yv7 zv7 dJ6_equals_30 ?_
  refine lv_icmp_ne (tgt := 54) hx hb dJ6_equals_33 (by decide) (fun c8 => ?_) (fun c8 => ?_)
  rotate_left 1
  · replace z := it c8 z
    exact wJ6_equals_36 S hr hlk hnm hG hRM a1 z _ _ hH hS _ (lv_sub hl [1, 0] rfl)
  replace z := ie c8 z
  refine lv_iconst (v := (0 : Int32)) hx hb dJ6_equals_54 (by decide) ?_
  exact c_iret' S hr hlk rfl hH hS z dJ6_equals_55

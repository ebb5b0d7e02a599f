set_option maxRecDepth 100000
/-! FourOnOne$State.may(II)Z -/
def fX5_may (K : KE) (h : HS) (a0 : Nat) (a1 : Int32) (a2 : Int32) : Option (HS × Int32) :=
  (rcv K h (some a0) 5).bind fun b1 =>
  (fX5_isOver K h b1 a1 a2).bind fun x2 =>
  if x2 = 0 then
    (gR K h (some a0) 5 10).bind fun v4 =>
    (gR K h v4 0 0).bind fun v5 =>
    (gR K h v5 1 11).bind fun v6 =>
    if v6 = none then
      some (h, (1 : Int32))
    else
    (gR K h (some a0) 5 10).bind fun v8 =>
    (gR K h v8 0 6).bind fun v9 =>
    (gR K h v9 4 0).bind fun v10 =>
    (gI K h (some a0) 5 0).bind fun v11 =>
    (sCL h v10 1 (0 : Int32) ((v11 - v11 / (24 : Int32) * (24 : Int32)).toInt64)).bind fun h12 =>
    (gR K h12 (some a0) 5 10).bind fun v13 =>
    (gR K h12 v13 0 6).bind fun v14 =>
    (gR K h12 v14 4 0).bind fun v15 =>
    (gR K h12 (some a0) 5 10).bind fun v16 =>
    (rcv K h12 v16 0).bind fun b17 =>
    (fX0_filmOf K h12 b17 a2).bind fun x18 =>
    (gI K h12 x18 7 1).bind fun v19 =>
    (sCL h12 v15 1 (3 : Int32) v19.toInt64).bind fun h20 =>
    (gR K h20 (some a0) 5 10).bind fun v21 =>
    (gR K h20 v21 0 6).bind fun v22 =>
    (gR K h20 v22 4 0).bind fun v23 =>
    (gR K h20 (some a0) 5 4).bind fun v24 =>
    (cR K h20 v24 8 a1).bind fun v25 =>
    (cI K h20 v25 0 a2).bind fun v26 =>
    (sCL h20 v23 1 (4 : Int32) v26.toInt64).bind fun h27 =>
    (gR K h27 (some a0) 5 10).bind fun v28 =>
    (gR K h27 v28 0 6).bind fun v29 =>
    (gR K h27 v29 4 0).bind fun v30 =>
    (rcv K h27 (some a0) 5).bind fun b31 =>
    (fX5_score K h27 b31 a1 a2).bind fun x32 =>
    (sCL h27 v30 1 (5 : Int32) x32.toInt64).bind fun h33 =>
    (gR K h33 (some a0) 5 10).bind fun v34 =>
    (gR K h33 v34 0 0).bind fun v35 =>
    (gR K h33 v35 1 11).bind fun v36 =>
    (gR K h33 (some a0) 5 10).bind fun v37 =>
    (gR K h33 v37 0 6).bind fun v38 =>
    (vHo K h33 64 v36 v38).bind fun x39 =>
    (zr x39).bind fun g40 =>
    some (h33, x39)
  else
  some (h, (0 : Int32))
set_option maxHeartbeats 4000000 in
theorem metX5_may {l : Launch} {A : Nat → Prop} {D : va_G} {ac : Nat → ClassId} {K : KE} {h : HS} {a0 : Nat} {a1 : Int32} {a2 : Int32} {x : HS × Int32} (z : fX5_may K h a0 a1 a2 = some x) : Met l yX5_may (ws_ yX5_may cX5_may 3 (some .boolean)) (rmC 165 8369 K h) (cP A D ac K h [va_rf (some a0), .int a1, .int a2]) (cQi A D ac K x) (K.2.2.1 - h.2.1) (K.2.2.2 - h.2.2) A := by
  refine c_entry (plainFor_of_name (by decide)) (Nat.le_of_ble_eq_true rfl) ?_
  intro p e s m below meth c S hr hlk hnm hG hRM hH hS ls hl
  replace hl : lv_has ls 3 [(0, va_rf (some a0)), (1, .int a1), (2, .int a2)] := hl
  replace hnm : meth.name = "may" := hnm
  replace S : CallFix p m c cX5_may 3 s _ lw_all RX5 := S
  obtain ⟨hx, hb, hml, hown, hts⟩ := id S
  unfold fX5_may at z
  refine c_aload_n hx hb dX5_may_0 rfl (lv_at hl 0 rfl) ?_
  refine lv_iload_n hx hb dX5_may_1 rfl (lv_at hl 1 rfl) ?_
  refine lv_iload_n hx hb dX5_may_2 rfl (lv_at hl 2 rfl) ?_
  replace z := ob z
  obtain ⟨b1, zb1, z⟩ := z
  obtain ⟨yb1, zb1⟩ := rcv_e zb1
  replace z := ob z
  obtain ⟨x2, zx2, z⟩ := z
  refine c_calli hH hS hRM (fun _ _ f1 f2 => va_runV (b := b1) (As := [.int a1, .int a2]) (rest := []) S (metX5_isOver zx2) (cwV 2 hts (lw_V q1376 q1377 q1378 q178 q1379) rfl rfl rfl (by decide +kernel) ⟨(Nat.le_of_ble_eq_true rfl), (Nat.le_of_ble_eq_true rfl)⟩) (c_preV hG hH hS (ci := 5) rfl zb1) rfl rfl hl.1 (by rw [yb1]; rfl) (lv_room (Nat.le_of_ble_eq_true rfl)) dX5_may_3 ⟨f1, f2⟩) (fun H locs hH hS => ?_)
  refine lv_if_eq (tgt := 11) hx hb dX5_may_6 (by decide) (fun c3 => ?_) (fun c3 => ?_)
  rotate_left 1
  · replace z := ie c3 z
    refine lv_iconst (v := (0 : Int32)) hx hb dX5_may_9 (by decide) ?_
    exact c_iret S hr hlk rfl hH hS z dX5_may_10
  replace z := it c3 z
  refine c_aload_n hx hb dX5_may_11 rfl (lv_at hl 0 rfl) ?_
  replace z := ob z
  obtain ⟨v4, zv4, z⟩ := z
  obtain ⟨fsv4, yv4, zv4⟩ := gR_e zv4
  refine c_get S hG hH (ci := 5) (k := 10) rfl in_X5 (Nat.le_of_ble_eq_true rfl) q449 (fun _ y => y) yv4 zv4 dX5_may_12 ?_
  replace z := ob z
  obtain ⟨v5, zv5, z⟩ := z
  obtain ⟨fsv5, yv5, zv5⟩ := gR_e zv5
  refine c_getN S hG hH (ci := 0) (k := 0) rfl in_X0 (Nat.le_of_ble_eq_true rfl) q477 (fun _ y => y) yv5 zv5 dX5_may_15 ?_
  replace z := ob z
  obtain ⟨v6, zv6, z⟩ := z
  obtain ⟨fsv6, yv6, zv6⟩ := gR_e zv6
  refine c_getN S hG hH (ci := 1) (k := 11) rfl in_X1 (Nat.le_of_ble_eq_true rfl) q276 (fun _ y => y) yv6 zv6 dX5_may_18 ?_
  refine c_ifnonnull (tgt := 26) hx hb dX5_may_21 (by decide) (fun c7 => ?_) (fun c7 => ?_)
  rotate_left 1
  · replace z := it c7 z
    refine lv_iconst (v := (1 : Int32)) hx hb dX5_may_24 (by decide) ?_
    exact c_iret S hr hlk rfl hH hS z dX5_may_25
  replace z := ie c7 z
  refine c_aload_n hx hb dX5_may_26 rfl (lv_at hl 0 rfl) ?_
  replace z := ob z
  obtain ⟨v8, zv8, z⟩ := z
  obtain ⟨fsv8, yv8, zv8⟩ := gR_e zv8
  refine c_get S hG hH (ci := 5) (k := 10) rfl in_X5 (Nat.le_of_ble_eq_true rfl) q449 (fun _ y => y) yv8 zv8 dX5_may_27 ?_
  replace z := ob z
  obtain ⟨v9, zv9, z⟩ := z
  obtain ⟨fsv9, yv9, zv9⟩ := gR_e zv9
  refine c_getN S hG hH (ci := 0) (k := 6) rfl in_X0 (Nat.le_of_ble_eq_true rfl) q485 (fun _ y => y) yv9 zv9 dX5_may_30 ?_
  replace z := ob z
  obtain ⟨v10, zv10, z⟩ := z
  obtain ⟨fsv10, yv10, zv10⟩ := gR_e zv10
  refine c_getN S hG hH (ci := 4) (k := 0) rfl in_X4 (Nat.le_of_ble_eq_true rfl) q415 (fun _ y => y) yv10 zv10 dX5_may_33 ?_
  refine lv_iconst (v := (0 : Int32)) hx hb dX5_may_36 (by decide) ?_
  refine c_aload_n hx hb dX5_may_37 rfl (lv_at hl 0 rfl) ?_
  replace z := ob z
  obtain ⟨v11, zv11, z⟩ := z
  obtain ⟨fsv11, yv11, zv11⟩ := gI_e zv11
  refine c_get S hG hH (ci := 5) (k := 0) rfl in_X5 (Nat.le_of_ble_eq_true rfl) q429 (fun _ y => y) yv11 zv11 dX5_may_38 ?_
  refine lv_bipush (v := (24 : Int32)) hx hb dX5_may_41 (by decide) ?_
  refine lv_irem hx hb dX5_may_43 (by decide) ?_
  refine lv_i2l (v := (v11 - v11 / (24 : Int32) * (24 : Int32)).toInt64) hx hb dX5_may_44 rfl ?_
  replace z := ob z
  obtain ⟨h12, zh12, z⟩ := z
  refine c_last S hG hH hS zh12 dX5_may_45 (fun H locs hH hS => ?_)
  refine c_aload_n hx hb dX5_may_46 rfl (lv_at hl 0 rfl) ?_
  replace z := ob z
  obtain ⟨v13, zv13, z⟩ := z
  obtain ⟨fsv13, yv13, zv13⟩ := gR_e zv13
  refine c_get S hG hH (ci := 5) (k := 10) rfl in_X5 (Nat.le_of_ble_eq_true rfl) q449 (fun _ y => y) yv13 zv13 dX5_may_47 ?_
  replace z := ob z
  obtain ⟨v14, zv14, z⟩ := z
  obtain ⟨fsv14, yv14, zv14⟩ := gR_e zv14
  refine c_getN S hG hH (ci := 0) (k := 6) rfl in_X0 (Nat.le_of_ble_eq_true rfl) q485 (fun _ y => y) yv14 zv14 dX5_may_50 ?_
  replace z := ob z
  obtain ⟨v15, zv15, z⟩ := z
  obtain ⟨fsv15, yv15, zv15⟩ := gR_e zv15
  refine c_getN S hG hH (ci := 4) (k := 0) rfl in_X4 (Nat.le_of_ble_eq_true rfl) q415 (fun _ y => y) yv15 zv15 dX5_may_53 ?_
  refine lv_iconst (v := (3 : Int32)) hx hb dX5_may_56 (by decide) ?_
  refine c_aload_n hx hb dX5_may_57 rfl (lv_at hl 0 rfl) ?_
  replace z := ob z
  obtain ⟨v16, zv16, z⟩ := z
  obtain ⟨fsv16, yv16, zv16⟩ := gR_e zv16
  refine c_get S hG hH (ci := 5) (k := 10) rfl in_X5 (Nat.le_of_ble_eq_true rfl) q449 (fun _ y => y) yv16 zv16 dX5_may_58 ?_
  refine lv_iload_n hx hb dX5_may_61 rfl (lv_at hl 2 rfl) ?_
  replace z := ob z
  obtain ⟨b17, zb17, z⟩ := z
  obtain ⟨yb17, zb17⟩ := rcv_e zb17
  replace z := ob z
  obtain ⟨x18, zx18, z⟩ := z
  refine c_callq hH hS hRM (fun _ _ f1 f2 => va_runVN (b := b17) (As := [.int a2]) (rest := [.int (3 : Int32), va_rf v15]) S (metX0_filmOf zx18) ⟨va_cnB 1 hts (lw_meth q1330) rfl rfl rfl (hG.2.1.2.1 _ _ _ _ q1380) (hts _ q167) (by decide +kernel) ⟨(Nat.le_of_ble_eq_true rfl), (Nat.le_of_ble_eq_true rfl)⟩, hts _ q1329, hts _ qs40⟩ (c_preV hG hH hS (ci := 0) rfl zb17) rfl rfl hl.1 (by rw [yb17]; rfl) (lv_room (by simp [ct_r, ct_i, ct_l])) dX5_may_62 ⟨f1, f2⟩) (fun H locs hH hS => ?_)
  replace z := ob z
  obtain ⟨v19, zv19, z⟩ := z
  obtain ⟨fsv19, yv19, zv19⟩ := gI_e zv19
  refine c_getN S hG hH (ci := 7) (k := 1) rfl in_X8 (Nat.le_of_ble_eq_true rfl) q931 (fun _ y => y) yv19 zv19 dX5_may_65 ?_
  refine lv_i2l (v := v19.toInt64) hx hb dX5_may_68 rfl ?_
  replace z := ob z
  obtain ⟨h20, zh20, z⟩ := z
  refine c_last S hG hH hS zh20 dX5_may_69 (fun H locs hH hS => ?_)
  refine c_aload_n hx hb dX5_may_70 rfl (lv_at hl 0 rfl) ?_
  replace z := ob z
  obtain ⟨v21, zv21, z⟩ := z
  obtain ⟨fsv21, yv21, zv21⟩ := gR_e zv21
  refine c_get S hG hH (ci := 5) (k := 10) rfl in_X5 (Nat.le_of_ble_eq_true rfl) q449 (fun _ y => y) yv21 zv21 dX5_may_71 ?_
  replace z := ob z
  obtain ⟨v22, zv22, z⟩ := z
  obtain ⟨fsv22, yv22, zv22⟩ := gR_e zv22
  refine c_getN S hG hH (ci := 0) (k := 6) rfl in_X0 (Nat.le_of_ble_eq_true rfl) q485 (fun _ y => y) yv22 zv22 dX5_may_74 ?_
  replace z := ob z
  obtain ⟨v23, zv23, z⟩ := z
  obtain ⟨fsv23, yv23, zv23⟩ := gR_e zv23
  refine c_getN S hG hH (ci := 4) (k := 0) rfl in_X4 (Nat.le_of_ble_eq_true rfl) q415 (fun _ y => y) yv23 zv23 dX5_may_77 ?_
  refine lv_iconst (v := (4 : Int32)) hx hb dX5_may_80 (by decide) ?_
  refine c_aload_n hx hb dX5_may_81 rfl (lv_at hl 0 rfl) ?_
  replace z := ob z
  obtain ⟨v24, zv24, z⟩ := z
  obtain ⟨fsv24, yv24, zv24⟩ := gR_e zv24
  refine c_get S hG hH (ci := 5) (k := 4) rfl in_X5 (Nat.le_of_ble_eq_true rfl) q437 (fun _ y => y) yv24 zv24 dX5_may_82 ?_
  refine lv_iload_n hx hb dX5_may_85 rfl (lv_at hl 1 rfl) ?_
  replace z := ob z
  obtain ⟨v25, zv25, z⟩ := z
  refine c_aald S hG hH 8 rfl rfl zv25 dX5_may_86 ?_
  refine lv_iload_n hx hb dX5_may_87 rfl (lv_at hl 2 rfl) ?_
  replace z := ob z
  obtain ⟨v26, zv26, z⟩ := z
  refine c_iald S hG hH zv26 dX5_may_88 ?_
  refine lv_i2l (v := v26.toInt64) hx hb dX5_may_89 rfl ?_
  replace z := ob z
  obtain ⟨h27, zh27, z⟩ := z
  refine c_last S hG hH hS zh27 dX5_may_90 (fun H locs hH hS => ?_)
  refine c_aload_n hx hb dX5_may_91 rfl (lv_at hl 0 rfl) ?_
  replace z := ob z
  obtain ⟨v28, zv28, z⟩ := z
  obtain ⟨fsv28, yv28, zv28⟩ := gR_e zv28
  refine c_get S hG hH (ci := 5) (k := 10) rfl in_X5 (Nat.le_of_ble_eq_true rfl) q449 (fun _ y => y) yv28 zv28 dX5_may_92 ?_
  replace z := ob z
  obtain ⟨v29, zv29, z⟩ := z
  obtain ⟨fsv29, yv29, zv29⟩ := gR_e zv29
  refine c_getN S hG hH (ci := 0) (k := 6) rfl in_X0 (Nat.le_of_ble_eq_true rfl) q485 (fun _ y => y) yv29 zv29 dX5_may_95 ?_
  replace z := ob z
  obtain ⟨v30, zv30, z⟩ := z
  obtain ⟨fsv30, yv30, zv30⟩ := gR_e zv30
  refine c_getN S hG hH (ci := 4) (k := 0) rfl in_X4 (Nat.le_of_ble_eq_true rfl) q415 (fun _ y => y) yv30 zv30 dX5_may_98 ?_
  refine lv_iconst (v := (5 : Int32)) hx hb dX5_may_101 (by decide) ?_
  refine c_aload_n hx hb dX5_may_102 rfl (lv_at hl 0 rfl) ?_
  refine lv_iload_n hx hb dX5_may_103 rfl (lv_at hl 1 rfl) ?_
  refine lv_iload_n hx hb dX5_may_104 rfl (lv_at hl 2 rfl) ?_
  replace z := ob z
  obtain ⟨b31, zb31, z⟩ := z
  obtain ⟨yb31, zb31⟩ := rcv_e zb31
  replace z := ob z
  obtain ⟨x32, zx32, z⟩ := z
  refine c_calli hH hS hRM (fun _ _ f1 f2 => va_runV (b := b31) (As := [.int a1, .int a2]) (rest := [.int (5 : Int32), va_rf v30]) S (metX5_score zx32) (cwV 2 hts (lw_V q1381 q1382 q1383 q178 q1384) rfl rfl rfl (by decide +kernel) ⟨(Nat.le_of_ble_eq_true rfl), (Nat.le_of_ble_eq_true rfl)⟩) (c_preV hG hH hS (ci := 5) rfl zb31) rfl rfl hl.1 (by rw [yb31]; rfl) (lv_room (by simp [ct_r, ct_i, ct_l])) dX5_may_105 ⟨f1, f2⟩) (fun H locs hH hS => ?_)
  refine lv_i2l (v := x32.toInt64) hx hb dX5_may_108 rfl ?_
  replace z := ob z
  obtain ⟨h33, zh33, z⟩ := z
  refine c_last S hG hH hS zh33 dX5_may_109 (fun H locs hH hS => ?_)
  refine c_aload_n hx hb dX5_may_110 rfl (lv_at hl 0 rfl) ?_
  replace z := ob z
  obtain ⟨v34, zv34, z⟩ := z
  obtain ⟨fsv34, yv34, zv34⟩ := gR_e zv34
  refine c_get S hG hH (ci := 5) (k := 10) rfl in_X5 (Nat.le_of_ble_eq_true rfl) q449 (fun _ y => y) yv34 zv34 dX5_may_111 ?_
  replace z := ob z
  obtain ⟨v35, zv35, z⟩ := z
  obtain ⟨fsv35, yv35, zv35⟩ := gR_e zv35
  refine c_getN S hG hH (ci := 0) (k := 0) rfl in_X0 (Nat.le_of_ble_eq_true rfl) q477 (fun _ y => y) yv35 zv35 dX5_may_114 ?_
  replace z := ob z
  obtain ⟨v36, zv36, z⟩ := z
  obtain ⟨fsv36, yv36, zv36⟩ := gR_e zv36
  refine c_getN S hG hH (ci := 1) (k := 11) rfl in_X1 (Nat.le_of_ble_eq_true rfl) q276 (fun _ y => y) yv36 zv36 dX5_may_117 ?_
  refine c_aload_n hx hb dX5_may_120 rfl (lv_at hl 0 rfl) ?_
  replace z := ob z
  obtain ⟨v37, zv37, z⟩ := z
  obtain ⟨fsv37, yv37, zv37⟩ := gR_e zv37
  refine c_get S hG hH (ci := 5) (k := 10) rfl in_X5 (Nat.le_of_ble_eq_true rfl) q449 (fun _ y => y) yv37 zv37 dX5_may_121 ?_
  replace z := ob z
  obtain ⟨v38, zv38, z⟩ := z
  obtain ⟨fsv38, yv38, zv38⟩ := gR_e zv38
  refine c_getN S hG hH (ci := 0) (k := 6) rfl in_X0 (Nat.le_of_ble_eq_true rfl) q485 (fun _ y => y) yv38 zv38 dX5_may_124 ?_
  replace z := ob z
  obtain ⟨x39, zx39, z⟩ := z
  refine c_vho S hG hH hS hRM q1386 (vHo_ok _) zx39 ⟨(Nat.le_of_ble_eq_true rfl), (Nat.le_of_ble_eq_true rfl)⟩ hl.1 (Nat.le_of_ble_eq_true rfl) dX5_may_127 (fun H locs hH hS => ?_)
  replace z := ob z
  obtain ⟨g40, zg40, z⟩ := z
  obtain ⟨yg40, -⟩ := zr_e zg40
  exact c_iret S hr hlk yg40 hH hS z dX5_may_130
/-! FourOnOne$State.suggested(I)I -/
def fX5_suggested_57 (K : KE) (a0 : Nat) (k11 : HS → Int32 → Int32 → Int32 → Option (HS × Int32)) (h : HS) (a2 : Int32) (a3 : Int32) (a4 : Int32) : Option (HS × Int32) :=
  k11 h a2 a3 (a4 + (1 : Int32))
def fX5_suggested_54 (K : KE) (a0 : Nat) (k11 : HS → Int32 → Int32 → Int32 → Option (HS × Int32)) (h : HS) (a2 : Int32) (a4 : Int32) : Option (HS × Int32) :=
  fX5_suggested_57 K a0 k11 h a2 a4 a4
def fX5_suggested_11 (K : KE) (a0 : Nat) : Nat → HS → Int32 → Int32 → Int32 → Option (HS × Int32)
  | 0, _, _, _, _ => none
  | n + 1, h, a2, a3, a4 =>
    (gR K h (some a0) 5 10).bind fun v1 =>
    (rcv K h v1 0).bind fun b2 =>
    (fX0_films K h b2).bind fun x3 =>
    if x3 ≤ a4 then
      some (h, a3)
    else
    (rcv K h (some a0) 5).bind fun b5 =>
    (fX5_may K h b5 a2 a4).bind fun x6 =>
    if x6.2 = 0 then
      fX5_suggested_57 K a0 (fun h' b2 b3 b4 => fX5_suggested_11 K a0 n h' b2 b3 b4) x6.1 a2 a3 a4
    else
    if a3 = (-1 : Int32) then
      fX5_suggested_54 K a0 (fun h' b2 b3 b4 => fX5_suggested_11 K a0 n h' b2 b3 b4) x6.1 a2 a4
    else
    (rcv K x6.1 (some a0) 5).bind fun b9 =>
    (fX5_score K x6.1 b9 a2 a4).bind fun x10 =>
    (rcv K x6.1 (some a0) 5).bind fun b11 =>
    (fX5_score K x6.1 b11 a2 a3).bind fun x12 =>
    if x10 ≤ x12 then
      fX5_suggested_57 K a0 (fun h' b2 b3 b4 => fX5_suggested_11 K a0 n h' b2 b3 b4) x6.1 a2 a3 a4
    else
    fX5_suggested_54 K a0 (fun h' b2 b3 b4 => fX5_suggested_11 K a0 n h' b2 b3 b4) x6.1 a2 a4
def fX5_suggested (K : KE) (h : HS) (a0 : Nat) (a1 : Int32) : Option (HS × Int32) :=
  (rcv K h (some a0) 5).bind fun b1 =>
  (fX5_profile K h b1 a1).bind fun x2 =>
  fX5_suggested_11 K a0 FU h x2 (-1 : Int32) (0 : Int32)
set_option maxHeartbeats 4000000 in
theorem wX5_suggested_57 {p : Program} {l : Launch} {e : Env} {s : State} {m : MethodId} {args : Array Value} {below : List Frame} {meth : Method} {c : Code} {A : Nat → Prop} {D : va_G} {ac : Nat → ClassId} {K : KE} {h0 : HS} {a0 : Nat} (S : CallFix p m c cX5_suggested 5 s args lw_all RX5) (hr : meth.sig.returnType = some .int) (hlk : meth.locks = false) (hnm : meth.name = "suggested") (hG : GK A D ac K s) (hRM : RM K s (rmC 166 8391 K h0)) {x : HS × Int32} {k11 : HS → Int32 → Int32 → Int32 → Option (HS × Int32)} (hk11 : ∀ h a2 a3 a4, k11 h a2 a3 a4 = some x → cGo p l e (rmC 166 8391 K h0) s m args below meth c A D ac K (MQ below (cQi A D ac K x) args s (K.2.2.1 - h0.2.1) (K.2.2.2 - h0.2.2) A) 5 11 [(0, va_rf (some a0)), (2, .int a2), (3, .int a3), (4, .int a4)] [] h) : ∀ (h : HS) (a2 : Int32) (a3 : Int32) (a4 : Int32), fX5_suggested_57 K a0 k11 h a2 a3 a4 = some x → cGo p l e (rmC 166 8391 K h0) s m args below meth c A D ac K (MQ below (cQi A D ac K x) args s (K.2.2.1 - h0.2.1) (K.2.2.2 - h0.2.2) A) 5 57 [(0, va_rf (some a0)), (2, .int a2), (3, .int a3), (4, .int a4)] [] h := by
  obtain ⟨hx, hb, hml, hown, hts⟩ := id S
  intro h a2 a3 a4 z H locs hH hS ls hl
  unfold fX5_suggested_57 at z
  refine lv_iinc (v := (a4 + (1 : Int32))) (lv' := [(4, .int (a4 + (1 : Int32))), (0, va_rf (some a0)), (2, .int a2), (3, .int a3)]) hx hb dX5_suggested_57 hl (k := 3) rfl rfl (by decide) rfl (fun ls hl => ?_)
  refine lv_goto (tgt := 11) hx hb dX5_suggested_60 (by decide) ?_
  exact hk11 h a2 a3 (a4 + (1 : Int32)) z _ _ hH hS _ (lv_sub hl [1, 2, 3, 0] rfl)
set_option maxHeartbeats 4000000 in
theorem wX5_suggested_54 {p : Program} {l : Launch} {e : Env} {s : State} {m : MethodId} {args : Array Value} {below : List Frame} {meth : Method} {c : Code} {A : Nat → Prop} {D : va_G} {ac : Nat → ClassId} {K : KE} {h0 : HS} {a0 : Nat} (S : CallFix p m c cX5_suggested 5 s args lw_all RX5) (hr : meth.sig.returnType = some .int) (hlk : meth.locks = false) (hnm : meth.name = "suggested") (hG : GK A D ac K s) (hRM : RM K s (rmC 166 8391 K h0)) {x : HS × Int32} {k11 : HS → Int32 → Int32 → Int32 → Option (HS × Int32)} (hk11 : ∀ h a2 a3 a4, k11 h a2 a3 a4 = some x → cGo p l e (rmC 166 8391 K h0) s m args below meth c A D ac K (MQ below (cQi A D ac K x) args s (K.2.2.1 - h0.2.1) (K.2.2.2 - h0.2.2) A) 5 11 [(0, va_rf (some a0)), (2, .int a2), (3, .int a3), (4, .int a4)] [] h) : ∀ (h : HS) (a2 : Int32) (a4 : Int32), fX5_suggested_54 K a0 k11 h a2 a4 = some x → cGo p l e (rmC 166 8391 K h0) s m args below meth c A D ac K (MQ below (cQi A D ac K x) args s (K.2.2.1 - h0.2.1) (K.2.2.2 - h0.2.2) A) 5 54 [(0, va_rf (some a0)), (2, .int a2), (4, .int a4)] [] h := by
  obtain ⟨hx, hb, hml, hown, hts⟩ := id S
  intro h a2 a4 z H locs hH hS ls hl
  unfold fX5_suggested_54 at z
  refine lv_iload hx hb dX5_suggested_54 (lv_at hl 2 rfl) ?_
  refine lv_istore_n (lv' := [(3, .int a4), (0, va_rf (some a0)), (2, .int a2), (4, .int a4)]) hx hb dX5_suggested_56 rfl hl (by decide) rfl (fun ls hl => ?_)
  exact wX5_suggested_57 S hr hlk hnm hG hRM hk11 h a2 a4 a4 z _ _ hH hS _ (lv_sub hl [1, 2, 0, 3] rfl)
set_option maxHeartbeats 4000000 in
theorem wX5_suggested_11 {p : Program} {l : Launch} {e : Env} {s : State} {m : MethodId} {args : Array Value} {below : List Frame} {meth : Method} {c : Code} {A : Nat → Prop} {D : va_G} {ac : Nat → ClassId} {K : KE} {h0 : HS} {a0 : Nat} (S : CallFix p m c cX5_suggested 5 s args lw_all RX5) (hr : meth.sig.returnType = some .int) (hlk : meth.locks = false) (hnm : meth.name = "suggested") (hG : GK A D ac K s) (hRM : RM K s (rmC 166 8391 K h0)) {x : HS × Int32} : ∀ (n : Nat) (h : HS) (a2 : Int32) (a3 : Int32) (a4 : Int32), fX5_suggested_11 K a0 n h a2 a3 a4 = some x → cGo p l e (rmC 166 8391 K h0) s m args below meth c A D ac K (MQ below (cQi A D ac K x) args s (K.2.2.1 - h0.2.1) (K.2.2.2 - h0.2.2) A) 5 11 [(0, va_rf (some a0)), (2, .int a2), (3, .int a3), (4, .int a4)] [] h := by
  obtain ⟨hx, hb, hml, hown, hts⟩ := id S
  intro n
  induction n with
  | zero => intro h a2 a3 a4 z; cases z
  | succ n ih =>
    intro h a2 a3 a4 z H locs hH hS ls hl
    rw [fX5_suggested_11] at z
    refine lv_iload hx hb dX5_suggested_11 (lv_at hl 3 rfl) ?_
    refine c_aload_n hx hb dX5_suggested_13 rfl (lv_at hl 0 rfl) ?_
    replace z := ob z
    obtain ⟨v1, zv1, z⟩ := z
    obtain ⟨fsv1, yv1, zv1⟩ := gR_e zv1
    refine c_get S hG hH (ci := 5) (k := 10) rfl in_X5 (Nat.le_of_ble_eq_true rfl) q449 (fun _ y => y) yv1 zv1 dX5_suggested_14 ?_
    replace z := ob z
    obtain ⟨b2, zb2, z⟩ := z
    obtain ⟨yb2, zb2⟩ := rcv_e zb2
    replace z := ob z
    obtain ⟨x3, zx3, z⟩ := z
    refine c_calli hH hS hRM (fun _ _ f1 f2 => va_runVN (b := b2) (As := []) (rest := [.int a4]) S (metX0_films zx3) ⟨va_cnB 0 hts (lw_meth q1277) rfl rfl rfl (hG.2.1.2.1 _ _ _ _ q1371) (hts _ q167) (by decide +kernel) ⟨(Nat.le_of_ble_eq_true rfl), (Nat.le_of_ble_eq_true rfl)⟩, hts _ q1276, hts _ qs36⟩ (c_preV hG hH hS (ci := 0) rfl zb2) rfl rfl hl.1 (by rw [yb2]; rfl) (lv_room (Nat.le_of_ble_eq_true rfl)) dX5_suggested_17 ⟨f1, f2⟩) (fun H locs hH hS => ?_)
    refine lv_icmp_ge (tgt := 63) hx hb dX5_suggested_20 (by decide) (fun c4 => ?_) (fun c4 => ?_)
    · replace z := it c4 z
      refine lv_iload_n hx hb dX5_suggested_63 rfl (lv_at hl 2 rfl) ?_
      exact c_iret S hr hlk rfl hH hS z dX5_suggested_64
    replace z := ie c4 z
    refine c_aload_n hx hb dX5_suggested_23 rfl (lv_at hl 0 rfl) ?_
    refine lv_iload_n hx hb dX5_suggested_24 rfl (lv_at hl 1 rfl) ?_
    refine lv_iload hx hb dX5_suggested_25 (lv_at hl 3 rfl) ?_
    replace z := ob z
    obtain ⟨b5, zb5, z⟩ := z
    obtain ⟨yb5, zb5⟩ := rcv_e zb5
    replace z := ob z
    obtain ⟨x6, zx6, z⟩ := z
    refine c_calli hH hS hRM (fun _ _ f1 f2 => va_runV (b := b5) (As := [.int a2, .int a4]) (rest := []) S (metX5_may zx6) (cwV 2 hts (lw_V q1372 q1374 qs44 q178 q1375) rfl rfl rfl (by decide +kernel) ⟨(Nat.le_of_ble_eq_true rfl), (Nat.le_of_ble_eq_true rfl)⟩) (c_preV hG hH hS (ci := 5) rfl zb5) rfl rfl hl.1 (by rw [yb5]; rfl) (lv_room (Nat.le_of_ble_eq_true rfl)) dX5_suggested_27 ⟨f1, f2⟩) (fun H locs hH hS => ?_)
    refine lv_if_eq (tgt := 57) hx hb dX5_suggested_30 (by decide) (fun c7 => ?_) (fun c7 => ?_)
    · replace z := it c7 z
      exact wX5_suggested_57 S hr hlk hnm hG hRM ih x6.1 a2 a3 a4 z _ _ hH hS _ (lv_sub hl [0, 1, 2, 3] rfl)
    replace z := ie c7 z
    refine lv_iload_n hx hb dX5_suggested_33 rfl (lv_at hl 2 rfl) ?_
    refine lv_iconst (v := (-1 : Int32)) hx hb dX5_suggested_34 (by decide) ?_
    refine lv_icmp_eq (tgt := 54) hx hb dX5_suggested_35 (by decide) (fun c8 => ?_) (fun c8 => ?_)
    · replace z := it c8 z
      exact wX5_suggested_54 S hr hlk hnm hG hRM ih x6.1 a2 a4 z _ _ hH hS _ (lv_sub hl [0, 1, 3] rfl)
    replace z := ie c8 z
    refine c_aload_n hx hb dX5_suggested_38 rfl (lv_at hl 0 rfl) ?_
    refine lv_iload_n hx hb dX5_suggested_39 rfl (lv_at hl 1 rfl) ?_
    refine lv_iload hx hb dX5_suggested_40 (lv_at hl 3 rfl) ?_
    replace z := ob z
    obtain ⟨b9, zb9, z⟩ := z
    obtain ⟨yb9, zb9⟩ := rcv_e zb9
    replace z := ob z
    obtain ⟨x10, zx10, z⟩ := z
    refine c_calli hH hS hRM (fun _ _ f1 f2 => va_runV (b := b9) (As := [.int a2, .int a4]) (rest := []) S (metX5_score zx10) (cwV 2 hts (lw_V q1381 q1382 q1383 q178 q1384) rfl rfl rfl (by decide +kernel) ⟨(Nat.le_of_ble_eq_true rfl), (Nat.le_of_ble_eq_true rfl)⟩) (c_preV hG hH hS (ci := 5) rfl zb9) rfl rfl hl.1 (by rw [yb9]; rfl) (lv_room (Nat.le_of_ble_eq_true rfl)) dX5_suggested_42 ⟨f1, f2⟩) (fun H locs hH hS => ?_)
    refine c_aload_n hx hb dX5_suggested_45 rfl (lv_at hl 0 rfl) ?_
    refine lv_iload_n hx hb dX5_suggested_46 rfl (lv_at hl 1 rfl) ?_
    refine lv_iload_n hx hb dX5_suggested_47 rfl (lv_at hl 2 rfl) ?_
    replace z := ob z
    obtain ⟨b11, zb11, z⟩ := z
    obtain ⟨yb11, zb11⟩ := rcv_e zb11
    replace z := ob z
    obtain ⟨x12, zx12, z⟩ := z
    refine c_calli hH hS hRM (fun _ _ f1 f2 => va_runV (b := b11) (As := [.int a2, .int a3]) (rest := [.int x10]) S (metX5_score zx12) (cwV 2 hts (lw_V q1381 q1382 q1383 q178 q1384) rfl rfl rfl (by decide +kernel) ⟨(Nat.le_of_ble_eq_true rfl), (Nat.le_of_ble_eq_true rfl)⟩) (c_preV hG hH hS (ci := 5) rfl zb11) rfl rfl hl.1 (by rw [yb11]; rfl) (lv_room (Nat.le_of_ble_eq_true rfl)) dX5_suggested_48 ⟨f1, f2⟩) (fun H locs hH hS => ?_)
    refine lv_icmp_le (tgt := 57) hx hb dX5_suggested_51 (by decide) (fun c13 => ?_) (fun c13 => ?_)
    · replace z := it c13 z
      exact wX5_suggested_57 S hr hlk hnm hG hRM ih x6.1 a2 a3 a4 z _ _ hH hS _ (lv_sub hl [0, 1, 2, 3] rfl)
    replace z := ie c13 z
    exact wX5_suggested_54 S hr hlk hnm hG hRM ih x6.1 a2 a4 z _ _ hH hS _ (lv_sub hl [0, 1, 3] rfl)
set_option maxHeartbeats 4000000 in
theorem metX5_suggested {l : Launch} {A : Nat → Prop} {D : va_G} {ac : Nat → ClassId} {K : KE} {h : HS} {a0 : Nat} {a1 : Int32} {x : HS × Int32} (z : fX5_suggested K h a0 a1 = some x) : Met l yX5_suggested (ws_ yX5_suggested cX5_suggested 5 (some .int)) (rmC 166 8391 K h) (cP A D ac K h [va_rf (some a0), .int a1]) (cQi A D ac K x) (K.2.2.1 - h.2.1) (K.2.2.2 - h.2.2) A := by
  refine c_entry (plainFor_of_name (by decide)) (Nat.le_of_ble_eq_true rfl) ?_
  intro p e s m below meth c S hr hlk hnm hG hRM hH hS ls hl
  replace hl : lv_has ls 5 [(0, va_rf (some a0)), (1, .int a1)] := hl
  replace hnm : meth.name = "suggested" := hnm
  replace S : CallFix p m c cX5_suggested 5 s _ lw_all RX5 := S
  obtain ⟨hx, hb, hml, hown, hts⟩ := id S
  unfold fX5_suggested at z
  refine c_aload_n hx hb dX5_suggested_0 rfl (lv_at hl 0 rfl) ?_
  refine lv_iload_n hx hb dX5_suggested_1 rfl (lv_at hl 1 rfl) ?_
  replace z := ob z
  obtain ⟨b1, zb1, z⟩ := z
  obtain ⟨yb1, zb1⟩ := rcv_e zb1
  replace z := ob z
  obtain ⟨x2, zx2, z⟩ := z
  refine c_calli hH hS hRM (fun _ _ f1 f2 => va_runV (b := b1) (As := [.int a1]) (rest := []) S (metX5_profile zx2) (cwV 1 hts (lw_V q1366 q1367 q1368 q178 q1369) rfl rfl rfl (by decide +kernel) ⟨(Nat.le_of_ble_eq_true rfl), (Nat.le_of_ble_eq_true rfl)⟩) (c_preV hG hH hS (ci := 5) rfl zb1) rfl rfl hl.1 (by rw [yb1]; rfl) (lv_room (Nat.le_of_ble_eq_true rfl)) dX5_suggested_2 ⟨f1, f2⟩) (fun H locs hH hS => ?_)
  refine lv_istore_n (lv' := [(2, .int x2), (0, va_rf (some a0)), (1, .int a1)]) hx hb dX5_suggested_5 rfl hl (by decide) rfl (fun ls hl => ?_)
  refine lv_iconst (v := (-1 : Int32)) hx hb dX5_suggested_6 (by decide) ?_
  refine lv_istore_n (lv' := [(3, .int (-1 : Int32)), (2, .int x2), (0, va_rf (some a0)), (1, .int a1)]) hx hb dX5_suggested_7 rfl hl (by decide) rfl (fun ls hl => ?_)
  refine lv_iconst (v := (0 : Int32)) hx hb dX5_suggested_8 (by decide) ?_
  refine lv_istore (lv' := [(4, .int (0 : Int32)), (3, .int (-1 : Int32)), (2, .int x2), (0, va_rf (some a0)), (1, .int a1)]) hx hb dX5_suggested_9 hl (by decide) rfl (fun ls hl => ?_)
  exact wX5_suggested_11 S hr hlk hnm hG hRM FU h x2 (-1 : Int32) (0 : Int32) z _ _ hH hS _ (lv_sub hl [3, 2, 1, 0] rfl)
/-! FourOnOne.suggest(I)I -/
def fX0_suggest (K : KE) (h : HS) (a0 : Nat) (a1 : Int32) : Option (HS × Int32) :=
  (rcv K h (some a0) 0).bind fun b1 =>
  (fX0_isPerson K h b1 a1).bind fun x2 =>
  if x2 = 0 then
    some (h, (-1 : Int32))
  else
  (gR K h (some a0) 0 9).bind fun v4 =>
  (rcv K h v4 5).bind fun b5 =>
  (fX5_suggested K h b5 a1).bind fun x6 =>
  some (x6.1, x6.2)
set_option maxHeartbeats 4000000 in
theorem metX0_suggest {l : Launch} {A : Nat → Prop} {D : va_G} {ac : Nat → ClassId} {K : KE} {h : HS} {a0 : Nat} {a1 : Int32} {x : HS × Int32} (z : fX0_suggest K h a0 a1 = some x) : Met l yX0_suggest (ws_ yX0_suggest cX0_suggest 2 (some .int)) (rmC 167 8415 K h) (cP A D ac K h [va_rf (some a0), .int a1]) (cQi A D ac K x) (K.2.2.1 - h.2.1) (K.2.2.2 - h.2.2) A := by
  refine c_entry (plainFor_of_name (by decide)) (Nat.le_of_ble_eq_true rfl) ?_
  intro p e s m below meth c S hr hlk hnm hG hRM hH hS ls hl
  replace hl : lv_has ls 2 [(0, va_rf (some a0)), (1, .int a1)] := hl
  replace hnm : meth.name = "suggest" := hnm
  replace S : CallFix p m c cX0_suggest 2 s _ lw_all RX0 := S
  obtain ⟨hx, hb, hml, hown, hts⟩ := id S
  unfold fX0_suggest at z
  refine c_aload_n hx hb dX0_suggest_0 rfl (lv_at hl 0 rfl) ?_
  refine lv_iload_n hx hb dX0_suggest_1 rfl (lv_at hl 1 rfl) ?_
  replace z := ob z
  obtain ⟨b1, zb1, z⟩ := z
  obtain ⟨yb1, zb1⟩ := rcv_e zb1
  replace z := ob z
  obtain ⟨x2, zx2, z⟩ := z
  refine c_calli hH hS hRM (fun _ _ f1 f2 => va_runV (b := b1) (As := [.int a1]) (rest := []) S (metX0_isPerson zx2) (cwV 1 hts (lw_V q1340 q1342 qs42 q167 q1343) rfl rfl rfl (by decide +kernel) ⟨(Nat.le_of_ble_eq_true rfl), (Nat.le_of_ble_eq_true rfl)⟩) (c_preV hG hH hS (ci := 0) rfl zb1) rfl rfl hl.1 (by rw [yb1]; rfl) (lv_room (Nat.le_of_ble_eq_true rfl)) dX0_suggest_2 ⟨f1, f2⟩) (fun H locs hH hS => ?_)
  refine lv_if_eq (tgt := 19) hx hb dX0_suggest_5 (by decide) (fun c3 => ?_) (fun c3 => ?_)
  · replace z := it c3 z
    refine lv_iconst (v := (-1 : Int32)) hx hb dX0_suggest_19 (by decide) ?_
    exact c_iret S hr hlk rfl hH hS z dX0_suggest_20
  replace z := ie c3 z
  refine c_aload_n hx hb dX0_suggest_8 rfl (lv_at hl 0 rfl) ?_
  replace z := ob z
  obtain ⟨v4, zv4, z⟩ := z
  obtain ⟨fsv4, yv4, zv4⟩ := gR_e zv4
  refine c_get S hG hH (ci := 0) (k := 9) rfl in_X0 (Nat.le_of_ble_eq_true rfl) q489 (fun _ y => y) yv4 zv4 dX0_suggest_9 ?_
  refine lv_iload_n hx hb dX0_suggest_12 rfl (lv_at hl 1 rfl) ?_
  replace z := ob z
  obtain ⟨b5, zb5, z⟩ := z
  obtain ⟨yb5, zb5⟩ := rcv_e zb5
  replace z := ob z
  obtain ⟨x6, zx6, z⟩ := z
  refine c_calli hH hS hRM (fun _ _ f1 f2 => va_runV (b := b5) (As := [.int a1]) (rest := []) S (metX5_suggested zx6) (cwV 1 hts (lw_V q1362 q1363 q1364 q178 q1365) rfl rfl rfl (by decide +kernel) ⟨(Nat.le_of_ble_eq_true rfl), (Nat.le_of_ble_eq_true rfl)⟩) (c_preV hG hH hS (ci := 5) rfl zb5) rfl rfl hl.1 (by rw [yb5]; rfl) (lv_room (Nat.le_of_ble_eq_true rfl)) dX0_suggest_13 ⟨f1, f2⟩) (fun H locs hH hS => ?_)
  refine lv_goto (tgt := 20) hx hb dX0_suggest_16 (by decide) ?_
  exact c_iret S hr hlk rfl hH hS z dX0_suggest_20
/-! FourOnOne$State.learns(II)V -/
def fX5_learns_173 (K : KE) (a0 : Nat) (k34 : HS → Int32 → Int32 → Int32 → Option (HS)) (h : HS) (a1 : Int32) (a2 : Int32) (a3 : Int32) : Option (HS) :=
  k34 h a1 a2 (a3 + (1 : Int32))
def fX5_learns_147 (K : KE) (a0 : Nat) (k34 : HS → Int32 → Int32 → Int32 → Option (HS)) (h : HS) (a1 : Int32) (a2 : Int32) (a3 : Int32) (t0 : Int64) : Option (HS) :=
  (gR K h (some a0) 5 3).bind fun v1 =>
  (cR K h v1 8 a1).bind fun v2 =>
  (gR K h (some a0) 5 3).bind fun v3 =>
  (cR K h v3 8 a1).bind fun v4 =>
  (cI K h v4 0 a3).bind fun v5 =>
  (rcv K h (some a0) 5).bind fun b6 =>
  (fX5_cut K h b6 (v5.toInt64 + t0)).bind fun x7 =>
  (sC h v2 0 a3 x7).bind fun h8 =>
  fX5_learns_173 K a0 k34 h8 a1 a2 a3
def fX5_learns_34 (K : KE) (a0 : Nat) : Nat → HS → Int32 → Int32 → Int32 → Option (HS)
  | 0, _, _, _, _ => none
  | n + 1, h, a1, a2, a3 =>
    (gR K h (some a0) 5 10).bind fun v1 =>
    (rcv K h v1 0).bind fun b2 =>
    (fX0_kinds K h b2).bind fun x3 =>
    if x3 ≤ a3 then
      some h
    else
    (gR K h (some a0) 5 10).bind fun v5 =>
    (rcv K h v5 0).bind fun b6 =>
    (fX0_filmOf K h b6 a2).bind fun x7 =>
    (gR K h x7 7 2).bind fun v8 =>
    (cI K h v8 0 a3).bind fun v9 =>
    if v9 = 0 then
      fX5_learns_173 K a0 (fun h' b1 b2 b3 => fX5_learns_34 K a0 n h' b1 b2 b3) h a1 a2 a3
    else
    (gR K h (some a0) 5 10).bind fun v11 =>
    (gR K h v11 0 6).bind fun v12 =>
    (gR K h v12 4 0).bind fun v13 =>
    (gR K h (some a0) 5 3).bind fun v14 =>
    (cR K h v14 8 a1).bind fun v15 =>
    (cI K h v15 0 a3).bind fun v16 =>
    (sCL h v13 1 (1 : Int32) v16.toInt64).bind fun h17 =>
    (gR K h17 (some a0) 5 10).bind fun v18 =>
    (gR K h17 v18 0 6).bind fun v19 =>
    (gR K h17 v19 4 0).bind fun v20 =>
    (sCL h17 v20 1 (2 : Int32) v9.toInt64).bind fun h21 =>
    (gR K h21 (some a0) 5 10).bind fun v22 =>
    (gR K h21 v22 0 0).bind fun v23 =>
    (gR K h21 v23 1 9).bind fun v24 =>
    if v24 = none then
      fX5_learns_147 K a0 (fun h' b1 b2 b3 => fX5_learns_34 K a0 n h' b1 b2 b3) h21 a1 a2 a3 v9.toInt64
    else
    (gR K h21 (some a0) 5 10).bind fun v26 =>
    (gR K h21 v26 0 0).bind fun v27 =>
    (gR K h21 v27 1 9).bind fun v28 =>
    (gR K h21 (some a0) 5 10).bind fun v29 =>
    (gR K h21 v29 0 6).bind fun v30 =>
    (vAt K h21 64 v28 v30).bind fun x31 =>
    (fJ12_max_2 K h21 (0 : Int64) x31).bind fun x32 =>
    fX5_learns_147 K a0 (fun h' b1 b2 b3 => fX5_learns_34 K a0 n h' b1 b2 b3) h21 a1 a2 a3 x32
def fX5_learns (K : KE) (h : HS) (a0 : Nat) (a1 : Int32) (a2 : Int32) : Option (HS) :=
  (gR K h (some a0) 5 4).bind fun v1 =>
  (cR K h v1 8 a1).bind fun v2 =>
  (cI K h v2 0 a2).bind fun v3 =>
  (sC h v2 0 a2 (v3 + (1 : Int32))).bind fun h4 =>
  (gR K h4 (some a0) 5 10).bind fun v5 =>
  (gR K h4 v5 0 6).bind fun v6 =>
  (gR K h4 v6 4 0).bind fun v7 =>
  (gI K h4 (some a0) 5 0).bind fun v8 =>
  (sCL h4 v7 1 (0 : Int32) ((v8 - v8 / (24 : Int32) * (24 : Int32)).toInt64)).bind fun h9 =>
  fX5_learns_34 K a0 FU h9 a1 a2 (0 : Int32)
set_option maxHeartbeats 4000000 in
theorem wX5_learns_173 {p : Program} {l : Launch} {e : Env} {s : State} {m : MethodId} {args : Array Value} {below : List Frame} {meth : Method} {c : Code} {A : Nat → Prop} {D : va_G} {ac : Nat → ClassId} {K : KE} {h0 : HS} {a0 : Nat} (S : CallFix p m c cX5_learns 7 s args lw_all RX5) (hr : meth.sig.returnType = none) (hlk : meth.locks = false) (hnm : meth.name = "learns") (hG : GK A D ac K s) (hRM : RM K s (rmC 85 4269 K h0)) {x : HS} {k34 : HS → Int32 → Int32 → Int32 → Option (HS)} (hk34 : ∀ h a1 a2 a3, k34 h a1 a2 a3 = some x → cGo p l e (rmC 85 4269 K h0) s m args below meth c A D ac K (MQ below (cQv A D ac K x) args s (K.2.2.1 - h0.2.1) (K.2.2.2 - h0.2.2) A) 7 34 [(0, va_rf (some a0)), (1, .int a1), (2, .int a2), (3, .int a3)] [] h) : ∀ (h : HS) (a1 : Int32) (a2 : Int32) (a3 : Int32), fX5_learns_173 K a0 k34 h a1 a2 a3 = some x → cGo p l e (rmC 85 4269 K h0) s m args below meth c A D ac K (MQ below (cQv A D ac K x) args s (K.2.2.1 - h0.2.1) (K.2.2.2 - h0.2.2) A) 7 173 [(0, va_rf (some a0)), (1, .int a1), (2, .int a2), (3, .int a3)] [] h := by
  obtain ⟨hx, hb, hml, hown, hts⟩ := id S
  intro h a1 a2 a3 z H locs hH hS ls hl
  unfold fX5_learns_173 at z
  refine lv_iinc (v := (a3 + (1 : Int32))) (lv' := [(3, .int (a3 + (1 : Int32))), (0, va_rf (some a0)), (1, .int a1), (2, .int a2)]) hx hb dX5_learns_173 hl (k := 3) rfl rfl (by decide) rfl (fun ls hl => ?_)
  refine lv_goto (tgt := 34) hx hb dX5_learns_176 (by decide) ?_
  exact hk34 h a1 a2 (a3 + (1 : Int32)) z _ _ hH hS _ (lv_sub hl [1, 2, 3, 0] rfl)
set_option maxHeartbeats 4000000 in
theorem wX5_learns_147 {p : Program} {l : Launch} {e : Env} {s : State} {m : MethodId} {args : Array Value} {below : List Frame} {meth : Method} {c : Code} {A : Nat → Prop} {D : va_G} {ac : Nat → ClassId} {K : KE} {h0 : HS} {a0 : Nat} (S : CallFix p m c cX5_learns 7 s args lw_all RX5) (hr : meth.sig.returnType = none) (hlk : meth.locks = false) (hnm : meth.name = "learns") (hG : GK A D ac K s) (hRM : RM K s (rmC 85 4269 K h0)) {x : HS} {k34 : HS → Int32 → Int32 → Int32 → Option (HS)} (hk34 : ∀ h a1 a2 a3, k34 h a1 a2 a3 = some x → cGo p l e (rmC 85 4269 K h0) s m args below meth c A D ac K (MQ below (cQv A D ac K x) args s (K.2.2.1 - h0.2.1) (K.2.2.2 - h0.2.2) A) 7 34 [(0, va_rf (some a0)), (1, .int a1), (2, .int a2), (3, .int a3)] [] h) : ∀ (h : HS) (a1 : Int32) (a2 : Int32) (a3 : Int32) (t0 : Int64), fX5_learns_147 K a0 k34 h a1 a2 a3 t0 = some x → cGo p l e (rmC 85 4269 K h0) s m args below meth c A D ac K (MQ below (cQv A D ac K x) args s (K.2.2.1 - h0.2.1) (K.2.2.2 - h0.2.2) A) 7 147 [(0, va_rf (some a0)), (1, .int a1), (2, .int a2), (3, .int a3)] [.long t0] h := by
  obtain ⟨hx, hb, hml, hown, hts⟩ := id S
  intro h a1 a2 a3 t0 z H locs hH hS ls hl
  unfold fX5_learns_147 at z
  refine lv_lstore (lv' := [(5, .long t0), (0, va_rf (some a0)), (1, .int a1), (2, .int a2), (3, .int a3)]) hx hb dX5_learns_147 hl (by decide) rfl (fun ls hl => ?_)
  refine c_aload_n hx hb dX5_learns_149 rfl (lv_at hl 1 rfl) ?_
  replace z := ob z
  obtain ⟨v1, zv1, z⟩ := z
  obtain ⟨fsv1, yv1, zv1⟩ := gR_e zv1
  refine c_get S hG hH (ci := 5) (k := 3) rfl in_X5 (Nat.le_of_ble_eq_true rfl) q435 (fun _ y => y) yv1 zv1 dX5_learns_150 ?_
  refine lv_iload_n hx hb dX5_learns_153 rfl (lv_at hl 2 rfl) ?_
  replace z := ob z
  obtain ⟨v2, zv2, z⟩ := z
  refine c_aald S hG hH 8 rfl rfl zv2 dX5_learns_154 ?_
  refine lv_iload_n hx hb dX5_learns_155 rfl (lv_at hl 4 rfl) ?_
  refine c_aload_n hx hb dX5_learns_156 rfl (lv_at hl 1 rfl) ?_
  refine c_aload_n hx hb dX5_learns_157 rfl (lv_at hl 1 rfl) ?_
  replace z := ob z
  obtain ⟨v3, zv3, z⟩ := z
  obtain ⟨fsv3, yv3, zv3⟩ := gR_e zv3
  refine c_get S hG hH (ci := 5) (k := 3) rfl in_X5 (Nat.le_of_ble_eq_true rfl) q435 (fun _ y => y) yv3 zv3 dX5_learns_158 ?_
  refine lv_iload_n hx hb dX5_learns_161 rfl (lv_at hl 2 rfl) ?_
  replace z := ob z
  obtain ⟨v4, zv4, z⟩ := z
  refine c_aald S hG hH 8 rfl rfl zv4 dX5_learns_162 ?_
  refine lv_iload_n hx hb dX5_learns_163 rfl (lv_at hl 4 rfl) ?_
  replace z := ob z
  obtain ⟨v5, zv5, z⟩ := z
  refine c_iald S hG hH zv5 dX5_learns_164 ?_
  refine lv_i2l (v := v5.toInt64) hx hb dX5_learns_165 rfl ?_
  refine lv_lload hx hb dX5_learns_166 (lv_at hl 0 rfl) ?_
  refine lv_ladd hx hb dX5_learns_168 ?_
  replace z := ob z
  obtain ⟨b6, zb6, z⟩ := z
  obtain ⟨yb6, zb6⟩ := rcv_e zb6
  replace z := ob z
  obtain ⟨x7, zx7, z⟩ := z
  refine c_calli hH hS hRM (fun _ _ f1 f2 => va_runV (b := b6) (As := [.long (v5.toInt64 + t0)]) (rest := [.int a3, va_rf v2]) S (metX5_cut zx7) (cwV 1 hts (lw_V q1519 q1521 qs51 q178 q1522) rfl rfl rfl (by decide +kernel) ⟨(Nat.le_of_ble_eq_true rfl), (Nat.le_of_ble_eq_true rfl)⟩) (c_preV hG hH hS (ci := 5) rfl zb6) rfl rfl hl.1 (by rw [yb6]; rfl) (lv_room (by simp [ct_r, ct_i, ct_l])) dX5_learns_169 ⟨f1, f2⟩) (fun H locs hH hS => ?_)
  replace z := ob z
  obtain ⟨h8, zh8, z⟩ := z
  refine c_iast S hG hH hS zh8 dX5_learns_172 (fun H locs hH hS => ?_)
  exact wX5_learns_173 S hr hlk hnm hG hRM hk34 h8 a1 a2 a3 z _ _ hH hS _ (lv_sub hl [1, 2, 3, 4] rfl)
set_option maxHeartbeats 4000000 in
theorem wX5_learns_34 {p : Program} {l : Launch} {e : Env} {s : State} {m : MethodId} {args : Array Value} {below : List Frame} {meth : Method} {c : Code} {A : Nat → Prop} {D : va_G} {ac : Nat → ClassId} {K : KE} {h0 : HS} {a0 : Nat} (S : CallFix p m c cX5_learns 7 s args lw_all RX5) (hr : meth.sig.returnType = none) (hlk : meth.locks = false) (hnm : meth.name = "learns") (hG : GK A D ac K s) (hRM : RM K s (rmC 85 4269 K h0)) {x : HS} : ∀ (n : Nat) (h : HS) (a1 : Int32) (a2 : Int32) (a3 : Int32), fX5_learns_34 K a0 n h a1 a2 a3 = some x → cGo p l e (rmC 85 4269 K h0) s m args below meth c A D ac K (MQ below (cQv A D ac K x) args s (K.2.2.1 - h0.2.1) (K.2.2.2 - h0.2.2) A) 7 34 [(0, va_rf (some a0)), (1, .int a1), (2, .int a2), (3, .int a3)] [] h := by
  obtain ⟨hx, hb, hml, hown, hts⟩ := id S
  intro n
  induction n with
  | zero => intro h a1 a2 a3 z; cases z
  | succ n ih =>
    intro h a1 a2 a3 z H locs hH hS ls hl
    rw [fX5_learns_34] at z
    refine lv_iload_n hx hb dX5_learns_34 rfl (lv_at hl 3 rfl) ?_
    refine c_aload_n hx hb dX5_learns_35 rfl (lv_at hl 0 rfl) ?_
    replace z := ob z
    obtain ⟨v1, zv1, z⟩ := z
    obtain ⟨fsv1, yv1, zv1⟩ := gR_e zv1
    refine c_get S hG hH (ci := 5) (k := 10) rfl in_X5 (Nat.le_of_ble_eq_true rfl) q449 (fun _ y => y) yv1 zv1 dX5_learns_36 ?_
    replace z := ob z
    obtain ⟨b2, zb2, z⟩ := z
    obtain ⟨yb2, zb2⟩ := rcv_e zb2
    replace z := ob z
    obtain ⟨x3, zx3, z⟩ := z
    refine c_calli hH hS hRM (fun _ _ f1 f2 => va_runVN (b := b2) (As := []) (rest := [.int a3]) S (metX0_kinds zx3) ⟨va_cnB 0 hts (lw_meth q1271) rfl rfl rfl (hG.2.1.2.1 _ _ _ _ q1385) (hts _ q167) (by decide +kernel) ⟨(Nat.le_of_ble_eq_true rfl), (Nat.le_of_ble_eq_true rfl)⟩, hts _ q1270, hts _ qs35⟩ (c_preV hG hH hS (ci := 0) rfl zb2) rfl rfl hl.1 (by rw [yb2]; rfl) (lv_room (Nat.le_of_ble_eq_true rfl)) dX5_learns_39 ⟨f1, f2⟩) (fun H locs hH hS => ?_)
    refine lv_icmp_ge (tgt := 179) hx hb dX5_learns_42 (by decide) (fun c4 => ?_) (fun c4 => ?_)
    · replace z := it c4 z
      exact c_vret S hr hlk hH hS z dX5_learns_179
    replace z := ie c4 z
    refine c_aload_n hx hb dX5_learns_45 rfl (lv_at hl 0 rfl) ?_
    replace z := ob z
    obtain ⟨v5, zv5, z⟩ := z
    obtain ⟨fsv5, yv5, zv5⟩ := gR_e zv5
    refine c_get S hG hH (ci := 5) (k := 10) rfl in_X5 (Nat.le_of_ble_eq_true rfl) q449 (fun _ y => y) yv5 zv5 dX5_learns_46 ?_
    refine lv_iload_n hx hb dX5_learns_49 rfl (lv_at hl 2 rfl) ?_
    replace z := ob z
    obtain ⟨b6, zb6, z⟩ := z
    obtain ⟨yb6, zb6⟩ := rcv_e zb6
    replace z := ob z
    obtain ⟨x7, zx7, z⟩ := z
    refine c_callq hH hS hRM (fun _ _ f1 f2 => va_runVN (b := b6) (As := [.int a2]) (rest := []) S (metX0_filmOf zx7) ⟨va_cnB 1 hts (lw_meth q1330) rfl rfl rfl (hG.2.1.2.1 _ _ _ _ q1380) (hts _ q167) (by decide +kernel) ⟨(Nat.le_of_ble_eq_true rfl), (Nat.le_of_ble_eq_true rfl)⟩, hts _ q1329, hts _ qs40⟩ (c_preV hG hH hS (ci := 0) rfl zb6) rfl rfl hl.1 (by rw [yb6]; rfl) (lv_room (Nat.le_of_ble_eq_true rfl)) dX5_learns_50 ⟨f1, f2⟩) (fun H locs hH hS => ?_)
    replace z := ob z
    obtain ⟨v8, zv8, z⟩ := z
    obtain ⟨fsv8, yv8, zv8⟩ := gR_e zv8
    refine c_getN S hG hH (ci := 7) (k := 2) rfl in_X8 (Nat.le_of_ble_eq_true rfl) q934 (fun _ y => y) yv8 zv8 dX5_learns_53 ?_
    refine lv_iload_n hx hb dX5_learns_56 rfl (lv_at hl 3 rfl) ?_
    replace z := ob z
    obtain ⟨v9, zv9, z⟩ := z
    refine c_iald S hG hH zv9 dX5_learns_57 ?_
    refine lv_istore (lv' := [(4, .int v9), (0, va_rf (some a0)), (1, .int a1), (2, .int a2), (3, .int a3)]) hx hb dX5_learns_58 hl (by decide) rfl (fun ls hl => ?_)
    refine lv_iload hx hb dX5_learns_60 (lv_at hl 0 rfl) ?_
    refine lv_if_ne (tgt := 68) hx hb dX5_learns_62 (by decide) (fun c10 => ?_) (fun c10 => ?_)
    rotate_left 1
    · replace z := it c10 z
      refine lv_goto (tgt := 173) hx hb dX5_learns_65 (by decide) ?_
      exact wX5_learns_173 S hr hlk hnm hG hRM ih h a1 a2 a3 z _ _ hH hS _ (lv_sub hl [1, 2, 3, 4] rfl)
    replace z := ie c10 z
    refine c_aload_n hx hb dX5_learns_68 rfl (lv_at hl 1 rfl) ?_
    replace z := ob z
    obtain ⟨v11, zv11, z⟩ := z
    obtain ⟨fsv11, yv11, zv11⟩ := gR_e zv11
    refine c_get S hG hH (ci := 5) (k := 10) rfl in_X5 (Nat.le_of_ble_eq_true rfl) q449 (fun _ y => y) yv11 zv11 dX5_learns_69 ?_
    replace z := ob z
    obtain ⟨v12, zv12, z⟩ := z
    obtain ⟨fsv12, yv12, zv12⟩ := gR_e zv12
    refine c_getN S hG hH (ci := 0) (k := 6) rfl in_X0 (Nat.le_of_ble_eq_true rfl) q485 (fun _ y => y) yv12 zv12 dX5_learns_72 ?_
    replace z := ob z
    obtain ⟨v13, zv13, z⟩ := z
    obtain ⟨fsv13, yv13, zv13⟩ := gR_e zv13
    refine c_getN S hG hH (ci := 4) (k := 0) rfl in_X4 (Nat.le_of_ble_eq_true rfl) q415 (fun _ y => y) yv13 zv13 dX5_learns_75 ?_
    refine lv_iconst (v := (1 : Int32)) hx hb dX5_learns_78 (by decide) ?_
    refine c_aload_n hx hb dX5_learns_79 rfl (lv_at hl 1 rfl) ?_
    replace z := ob z
    obtain ⟨v14, zv14, z⟩ := z
    obtain ⟨fsv14, yv14, zv14⟩ := gR_e zv14
    refine c_get S hG hH (ci := 5) (k := 3) rfl in_X5 (Nat.le_of_ble_eq_true rfl) q435 (fun _ y => y) yv14 zv14 dX5_learns_80 ?_
    refine lv_iload_n hx hb dX5_learns_83 rfl (lv_at hl 2 rfl) ?_
    replace z := ob z
    obtain ⟨v15, zv15, z⟩ := z
    refine c_aald S hG hH 8 rfl rfl zv15 dX5_learns_84 ?_
    refine lv_iload_n hx hb dX5_learns_85 rfl (lv_at hl 4 rfl) ?_
    replace z := ob z
    obtain ⟨v16, zv16, z⟩ := z
    refine c_iald S hG hH zv16 dX5_learns_86 ?_
    refine lv_i2l (v := v16.toInt64) hx hb dX5_learns_87 rfl ?_
    replace z := ob z
    obtain ⟨h17, zh17, z⟩ := z
    refine c_last S hG hH hS zh17 dX5_learns_88 (fun H locs hH hS => ?_)
    refine c_aload_n hx hb dX5_learns_89 rfl (lv_at hl 1 rfl) ?_
    replace z := ob z
    obtain ⟨v18, zv18, z⟩ := z
    obtain ⟨fsv18, yv18, zv18⟩ := gR_e zv18
    refine c_get S hG hH (ci := 5) (k := 10) rfl in_X5 (Nat.le_of_ble_eq_true rfl) q449 (fun _ y => y) yv18 zv18 dX5_learns_90 ?_
    replace z := ob z
    obtain ⟨v19, zv19, z⟩ := z
    obtain ⟨fsv19, yv19, zv19⟩ := gR_e zv19
    refine c_getN S hG hH (ci := 0) (k := 6) rfl in_X0 (Nat.le_of_ble_eq_true rfl) q485 (fun _ y => y) yv19 zv19 dX5_learns_93 ?_
    replace z := ob z
    obtain ⟨v20, zv20, z⟩ := z
    obtain ⟨fsv20, yv20, zv20⟩ := gR_e zv20
    refine c_getN S hG hH (ci := 4) (k := 0) rfl in_X4 (Nat.le_of_ble_eq_true rfl) q415 (fun _ y => y) yv20 zv20 dX5_learns_96 ?_
    refine lv_iconst (v := (2 : Int32)) hx hb dX5_learns_99 (by decide) ?_
    refine lv_iload hx hb dX5_learns_100 (lv_at hl 0 rfl) ?_
    refine lv_i2l (v := v9.toInt64) hx hb dX5_learns_102 rfl ?_
    replace z := ob z
    obtain ⟨h21, zh21, z⟩ := z
    refine c_last S hG hH hS zh21 dX5_learns_103 (fun H locs hH hS => ?_)
    refine c_aload_n hx hb dX5_learns_104 rfl (lv_at hl 1 rfl) ?_
    replace z := ob z
    obtain ⟨v22, zv22, z⟩ := z
    obtain ⟨fsv22, yv22, zv22⟩ := gR_e zv22
    refine c_get S hG hH (ci := 5) (k := 10) rfl in_X5 (Nat.le_of_ble_eq_true rfl) q449 (fun _ y => y) yv22 zv22 dX5_learns_105 ?_
    replace z := ob z
    obtain ⟨v23, zv23, z⟩ := z
    obtain ⟨fsv23, yv23, zv23⟩ := gR_e zv23
    refine c_getN S hG hH (ci := 0) (k := 0) rfl in_X0 (Nat.le_of_ble_eq_true rfl) q477 (fun _ y => y) yv23 zv23 dX5_learns_108 ?_
    replace z := ob z
    obtain ⟨v24, zv24, z⟩ := z
    obtain ⟨fsv24, yv24, zv24⟩ := gR_e zv24
    refine c_getN S hG hH (ci := 1) (k := 9) rfl in_X1 (Nat.le_of_ble_eq_true rfl) q272 (fun _ y => y) yv24 zv24 dX5_learns_111 ?_
    refine c_ifnonnull (tgt := 123) hx hb dX5_learns_114 (by decide) (fun c25 => ?_) (fun c25 => ?_)
    rotate_left 1
    · replace z := it c25 z
      refine lv_iload hx hb dX5_learns_117 (lv_at hl 0 rfl) ?_
      refine lv_i2l (v := v9.toInt64) hx hb dX5_learns_119 rfl ?_
      refine lv_goto (tgt := 147) hx hb dX5_learns_120 (by decide) ?_
      exact wX5_learns_147 S hr hlk hnm hG hRM ih h21 a1 a2 a3 v9.toInt64 z _ _ hH hS _ (lv_sub hl [1, 2, 3, 4] rfl)
    replace z := ie c25 z
    refine lv_lconst (v := (0 : Int64)) hx hb dX5_learns_123 (by decide) ?_
    refine c_aload_n hx hb dX5_learns_124 rfl (lv_at hl 1 rfl) ?_
    replace z := ob z
    obtain ⟨v26, zv26, z⟩ := z
    obtain ⟨fsv26, yv26, zv26⟩ := gR_e zv26
    refine c_get S hG hH (ci := 5) (k := 10) rfl in_X5 (Nat.le_of_ble_eq_true rfl) q449 (fun _ y => y) yv26 zv26 dX5_learns_125 ?_
    replace z := ob z
    obtain ⟨v27, zv27, z⟩ := z
    obtain ⟨fsv27, yv27, zv27⟩ := gR_e zv27
    refine c_getN S hG hH (ci := 0) (k := 0) rfl in_X0 (Nat.le_of_ble_eq_true rfl) q477 (fun _ y => y) yv27 zv27 dX5_learns_128 ?_
    replace z := ob z
    obtain ⟨v28, zv28, z⟩ := z
    obtain ⟨fsv28, yv28, zv28⟩ := gR_e zv28
    refine c_getN S hG hH (ci := 1) (k := 9) rfl in_X1 (Nat.le_of_ble_eq_true rfl) q272 (fun _ y => y) yv28 zv28 dX5_learns_131 ?_
    refine c_aload_n hx hb dX5_learns_134 rfl (lv_at hl 1 rfl) ?_
    replace z := ob z
    obtain ⟨v29, zv29, z⟩ := z
    obtain ⟨fsv29, yv29, zv29⟩ := gR_e zv29
    refine c_get S hG hH (ci := 5) (k := 10) rfl in_X5 (Nat.le_of_ble_eq_true rfl) q449 (fun _ y => y) yv29 zv29 dX5_learns_135 ?_
    replace z := ob z
    obtain ⟨v30, zv30, z⟩ := z
    obtain ⟨fsv30, yv30, zv30⟩ := gR_e zv30
    refine c_getN S hG hH (ci := 0) (k := 6) rfl in_X0 (Nat.le_of_ble_eq_true rfl) q485 (fun _ y => y) yv30 zv30 dX5_learns_138 ?_
    replace z := ob z
    obtain ⟨x31, zx31, z⟩ := z
    refine c_vat S hG hH hS hRM q1517 (vAt_ok _) zx31 ⟨(Nat.le_of_ble_eq_true rfl), (Nat.le_of_ble_eq_true rfl)⟩ hl.1 (Nat.le_of_ble_eq_true rfl) dX5_learns_141 (fun H locs hH hS => ?_)
    replace z := ob z
    obtain ⟨x32, zx32, z⟩ := z
    refine c_calll hH hS hRM (fun _ _ f1 f2 => va_runS (As := [.long (0 : Int64), .long x31]) (rest := []) S (metJ12_max_2 zx32) (va_cwS 2 hts (lw_S q1518 q1421 q187 q1422) rfl rfl rfl (by decide +kernel) ⟨(Nat.le_of_ble_eq_true rfl), (Nat.le_of_ble_eq_true rfl)⟩) (c_pre hG hH hS) rfl rfl hl.1 rfl (lv_room (Nat.le_of_ble_eq_true rfl)) dX5_learns_144 ⟨f1, f2⟩) (fun H locs hH hS => ?_)
    exact wX5_learns_147 S hr hlk hnm hG hRM ih h21 a1 a2 a3 x32 z _ _ hH hS _ (lv_sub hl [1, 2, 3, 4] rfl)
set_option maxHeartbeats 4000000 in
theorem metX5_learns {l : Launch} {A : Nat → Prop} {D : va_G} {ac : Nat → ClassId} {K : KE} {h : HS} {a0 : Nat} {a1 : Int32} {a2 : Int32} {x : HS} (z : fX5_learns K h a0 a1 a2 = some x) : Met l yX5_learns (ws_ yX5_learns cX5_learns 7 (none)) (rmC 85 4269 K h) (cP A D ac K h [va_rf (some a0), .int a1, .int a2]) (cQv A D ac K x) (K.2.2.1 - h.2.1) (K.2.2.2 - h.2.2) A := by
  refine c_entry (plainFor_of_name (by decide)) (Nat.le_of_ble_eq_true rfl) ?_
  intro p e s m below meth c S hr hlk hnm hG hRM hH hS ls hl
  replace hl : lv_has ls 7 [(0, va_rf (some a0)), (1, .int a1), (2, .int a2)] := hl
  replace hnm : meth.name = "learns" := hnm
  replace S : CallFix p m c cX5_learns 7 s _ lw_all RX5 := S
  obtain ⟨hx, hb, hml, hown, hts⟩ := id S
  unfold fX5_learns at z
  refine c_aload_n hx hb dX5_learns_0 rfl (lv_at hl 0 rfl) ?_
  replace z := ob z
  obtain ⟨v1, zv1, z⟩ := z
  obtain ⟨fsv1, yv1, zv1⟩ := gR_e zv1
  refine c_get S hG hH (ci := 5) (k := 4) rfl in_X5 (Nat.le_of_ble_eq_true rfl) q437 (fun _ y => y) yv1 zv1 dX5_learns_1 ?_
  refine lv_iload_n hx hb dX5_learns_4 rfl (lv_at hl 1 rfl) ?_
  replace z := ob z
  obtain ⟨v2, zv2, z⟩ := z
  refine c_aald S hG hH 8 rfl rfl zv2 dX5_learns_5 ?_
  refine lv_iload_n hx hb dX5_learns_6 rfl (lv_at hl 2 rfl) ?_
  refine lv_dup2_11 hx hb dX5_learns_7 rfl (ct_r _) ?_
  replace z := ob z
  obtain ⟨v3, zv3, z⟩ := z
  refine c_iald S hG hH zv3 dX5_learns_8 ?_
  refine lv_iconst (v := (1 : Int32)) hx hb dX5_learns_9 (by decide) ?_
  refine lv_iadd hx hb dX5_learns_10 ?_
  replace z := ob z
  obtain ⟨h4, zh4, z⟩ := z
  refine c_iast S hG hH hS zh4 dX5_learns_11 (fun H locs hH hS => ?_)
  refine c_aload_n hx hb dX5_learns_12 rfl (lv_at hl 0 rfl) ?_
  replace z := ob z
  obtain ⟨v5, zv5, z⟩ := z
  obtain ⟨fsv5, yv5, zv5⟩ := gR_e zv5
  refine c_get S hG hH (ci := 5) (k := 10) rfl in_X5 (Nat.le_of_ble_eq_true rfl) q449 (fun _ y => y) yv5 zv5 dX5_learns_13 ?_
  replace z := ob z
  obtain ⟨v6, zv6, z⟩ := z
  obtain ⟨fsv6, yv6, zv6⟩ := gR_e zv6
  refine c_getN S hG hH (ci := 0) (k := 6) rfl in_X0 (Nat.le_of_ble_eq_true rfl) q485 (fun _ y => y) yv6 zv6 dX5_learns_16 ?_
  replace z := ob z
  obtain ⟨v7, zv7, z⟩ := z
  obtain ⟨fsv7, yv7, zv7⟩ := gR_e zv7
  refine c_getN S hG hH (ci := 4) (k := 0) rfl in_X4 (Nat.le_of_ble_eq_true rfl) q415 (fun _ y => y) yv7 zv7 dX5_learns_19 ?_
  refine lv_iconst (v := (0 : Int32)) hx hb dX5_learns_22 (by decide) ?_
  refine c_aload_n hx hb dX5_learns_23 rfl (lv_at hl 0 rfl) ?_
  replace z := ob z
  obtain ⟨v8, zv8, z⟩ := z
  obtain ⟨fsv8, yv8, zv8⟩ := gI_e zv8
  refine c_get S hG hH (ci := 5) (k := 0) rfl in_X5 (Nat.le_of_ble_eq_true rfl) q429 (fun _ y => y) yv8 zv8 dX5_learns_24 ?_
  refine lv_bipush (v := (24 : Int32)) hx hb dX5_learns_27 (by decide) ?_
  refine lv_irem hx hb dX5_learns_29 (by decide) ?_
  refine lv_i2l (v := (v8 - v8 / (24 : Int32) * (24 : Int32)).toInt64) hx hb dX5_learns_30 rfl ?_
  replace z := ob z
  obtain ⟨h9, zh9, z⟩ := z
  refine c_last S hG hH hS zh9 dX5_learns_31 (fun H locs hH hS => ?_)
  refine lv_iconst (v := (0 : Int32)) hx hb dX5_learns_32 (by decide) ?_
  refine lv_istore_n (lv' := [(3, .int (0 : Int32)), (0, va_rf (some a0)), (1, .int a1), (2, .int a2)]) hx hb dX5_learns_33 rfl hl (by decide) rfl (fun ls hl => ?_)
  exact wX5_learns_34 S hr hlk hnm hG hRM FU h9 a1 a2 (0 : Int32) z _ _ hH hS _ (lv_sub hl [1, 2, 3, 0] rfl)
/-! FourOnOne$State.sees(II)I -/
def fX5_sees_70 (K : KE) (a0 : Nat) (h : HS) (a1 : Int32) (t0 : Int32) (t1 : Int32) : Option (HS × Int32) :=
  (gR K h (some a0) 5 7).bind fun v1 =>
  (cL K h v1 1 a1).bind fun v2 =>
  (sCL h v1 1 a1 (v2 + ((t0 - t1).toInt64))).bind fun h3 =>
  some (h3, (t0 - t1))
def fX5_sees (K : KE) (h : HS) (a0 : Nat) (a1 : Int32) (a2 : Int32) : Option (HS × Int32) :=
  (rcv K h (some a0) 5).bind fun b1 =>
  (fX5_tells K h b1 a1 a2).bind fun x2 =>
  (rcv K x2 (some a0) 5).bind fun b3 =>
  (fX5_profile K x2 b3 a1).bind fun x4 =>
  (rcv K x2 (some a0) 5).bind fun b5 =>
  (fX5_learns K x2 b5 x4 a2).bind fun x6 =>
  (gR K x6 (some a0) 5 5).bind fun v7 =>
  (gR K x6 (some a0) 5 5).bind fun v8 =>
  (cI K x6 v8 0 a1).bind fun v9 =>
  (fJ12_min K x6 (9999 : Int32) (v9 + (1 : Int32))).bind fun x10 =>
  (sC x6 v7 0 a1 x10).bind fun h11 =>
  (gR K h11 (some a0) 5 10).bind fun v12 =>
  (rcv K h11 v12 0).bind fun b13 =>
  (fX0_worthOf K h11 b13 a1 a2).bind fun x14 =>
  (gI K h11 (some a0) 5 1).bind fun v15 =>
  (fX0_has K h11 v15 a1).bind fun x16 =>
  if x16 = 0 then
    fX5_sees_70 K a0 h11 a1 x14 (0 : Int32)
  else
  (gR K h11 (some a0) 5 10).bind fun v18 =>
  (gR K h11 v18 0 0).bind fun v19 =>
  (gI K h11 v19 1 4).bind fun v20 =>
  fX5_sees_70 K a0 h11 a1 x14 v20
set_option maxHeartbeats 4000000 in
theorem wX5_sees_70 {p : Program} {l : Launch} {e : Env} {s : State} {m : MethodId} {args : Array Value} {below : List Frame} {meth : Method} {c : Code} {A : Nat → Prop} {D : va_G} {ac : Nat → ClassId} {K : KE} {h0 : HS} {a0 : Nat} (S : CallFix p m c cX5_sees 4 s args lw_all RX5) (hr : meth.sig.returnType = some .int) (hlk : meth.locks = false) (hnm : meth.name = "sees") (hG : GK A D ac K s) (hRM : RM K s (rmC 86 4295 K h0)) {x : HS × Int32} : ∀ (h : HS) (a1 : Int32) (t0 : Int32) (t1 : Int32), fX5_sees_70 K a0 h a1 t0 t1 = some x → cGo p l e (rmC 86 4295 K h0) s m args below meth c A D ac K (MQ below (cQi A D ac K x) args s (K.2.2.1 - h0.2.1) (K.2.2.2 - h0.2.2) A) 4 70 [(0, va_rf (some a0)), (1, .int a1)] [.int t1, .int t0] h := by
  obtain ⟨hx, hb, hml, hown, hts⟩ := id S
  intro h a1 t0 t1 z H locs hH hS ls hl
  unfold fX5_sees_70 at z
  refine lv_isub hx hb dX5_sees_70 ?_
  refine lv_istore_n (lv' := [(3, .int (t0 - t1)), (0, va_rf (some a0)), (1, .int a1)]) hx hb dX5_sees_71 rfl hl (by decide) rfl (fun ls hl => ?_)
  refine c_aload_n hx hb dX5_sees_72 rfl (lv_at hl 1 rfl) ?_
  replace z := ob z
  obtain ⟨v1, zv1, z⟩ := z
  obtain ⟨fsv1, yv1, zv1⟩ := gR_e zv1
  refine c_get S hG hH (ci := 5) (k := 7) rfl in_X5 (Nat.le_of_ble_eq_true rfl) q443 (fun _ y => y) yv1 zv1 dX5_sees_73 ?_
  refine lv_iload_n hx hb dX5_sees_76 rfl (lv_at hl 2 rfl) ?_
  refine lv_dup2_11 hx hb dX5_sees_77 rfl (ct_r _) ?_
  replace z := ob z
  obtain ⟨v2, zv2, z⟩ := z
  refine c_lald S hG hH zv2 dX5_sees_78 ?_
  refine lv_iload_n hx hb dX5_sees_79 rfl (lv_at hl 0 rfl) ?_
  refine lv_i2l (v := (t0 - t1).toInt64) hx hb dX5_sees_80 rfl ?_
  refine lv_ladd hx hb dX5_sees_81 ?_
  replace z := ob z
  obtain ⟨h3, zh3, z⟩ := z
  refine c_last S hG hH hS zh3 dX5_sees_82 (fun H locs hH hS => ?_)
  refine lv_iload_n hx hb dX5_sees_83 rfl (lv_at hl 0 rfl) ?_
  exact c_iret S hr hlk rfl hH hS z dX5_sees_84
set_option maxHeartbeats 4000000 in
theorem metX5_sees {l : Launch} {A : Nat → Prop} {D : va_G} {ac : Nat → ClassId} {K : KE} {h : HS} {a0 : Nat} {a1 : Int32} {a2 : Int32} {x : HS × Int32} (z : fX5_sees K h a0 a1 a2 = some x) : Met l yX5_sees (ws_ yX5_sees cX5_sees 4 (some .int)) (rmC 86 4295 K h) (cP A D ac K h [va_rf (some a0), .int a1, .int a2]) (cQi A D ac K x) (K.2.2.1 - h.2.1) (K.2.2.2 - h.2.2) A := by
  refine c_entry (plainFor_of_name (by decide)) (Nat.le_of_ble_eq_true rfl) ?_
  intro p e s m below meth c S hr hlk hnm hG hRM hH hS ls hl
  replace hl : lv_has ls 4 [(0, va_rf (some a0)), (1, .int a1), (2, .int a2)] := hl
  replace hnm : meth.name = "sees" := hnm
  replace S : CallFix p m c cX5_sees 4 s _ lw_all RX5 := S
  obtain ⟨hx, hb, hml, hown, hts⟩ := id S
  unfold fX5_sees at z
  refine c_aload_n hx hb dX5_sees_0 rfl (lv_at hl 0 rfl) ?_
  refine lv_iload_n hx hb dX5_sees_1 rfl (lv_at hl 1 rfl) ?_
  refine lv_iload_n hx hb dX5_sees_2 rfl (lv_at hl 2 rfl) ?_
  replace z := ob z
  obtain ⟨b1, zb1, z⟩ := z
  obtain ⟨yb1, zb1⟩ := rcv_e zb1
  replace z := ob z
  obtain ⟨x2, zx2, z⟩ := z
  refine c_callv hH hS hRM (fun _ _ f1 f2 => va_runV (b := b1) (As := [.int a1, .int a2]) (rest := []) S (metX5_tells zx2) (cwV 2 hts (lw_V q1509 q1511 qs49 q178 q1512) rfl rfl rfl (by decide +kernel) ⟨(Nat.le_of_ble_eq_true rfl), (Nat.le_of_ble_eq_true rfl)⟩) (c_preV hG hH hS (ci := 5) rfl zb1) rfl rfl hl.1 (by rw [yb1]; rfl) (lv_room (Nat.le_of_ble_eq_true rfl)) dX5_sees_3 ⟨f1, f2⟩) (fun H locs hH hS => ?_)
  refine c_aload_n hx hb dX5_sees_6 rfl (lv_at hl 0 rfl) ?_
  refine c_aload_n hx hb dX5_sees_7 rfl (lv_at hl 0 rfl) ?_
  refine lv_iload_n hx hb dX5_sees_8 rfl (lv_at hl 1 rfl) ?_
  replace z := ob z
  obtain ⟨b3, zb3, z⟩ := z
  obtain ⟨yb3, zb3⟩ := rcv_e zb3
  replace z := ob z
  obtain ⟨x4, zx4, z⟩ := z
  refine c_calli hH hS hRM (fun _ _ f1 f2 => va_runV (b := b3) (As := [.int a1]) (rest := [va_rf (some a0)]) S (metX5_profile zx4) (cwV 1 hts (lw_V q1366 q1367 q1368 q178 q1369) rfl rfl rfl (by decide +kernel) ⟨(Nat.le_of_ble_eq_true rfl), (Nat.le_of_ble_eq_true rfl)⟩) (c_preV hG hH hS (ci := 5) rfl zb3) rfl rfl hl.1 (by rw [yb3]; rfl) (lv_room (Nat.le_of_ble_eq_true rfl)) dX5_sees_9 ⟨f1, f2⟩) (fun H locs hH hS => ?_)
  refine lv_iload_n hx hb dX5_sees_12 rfl (lv_at hl 2 rfl) ?_
  replace z := ob z
  obtain ⟨b5, zb5, z⟩ := z
  obtain ⟨yb5, zb5⟩ := rcv_e zb5
  replace z := ob z
  obtain ⟨x6, zx6, z⟩ := z
  refine c_callv hH hS hRM (fun _ _ f1 f2 => va_runV (b := b5) (As := [.int x4, .int a2]) (rest := []) S (metX5_learns zx6) (cwV 2 hts (lw_V q1513 q1515 qs50 q178 q1516) rfl rfl rfl (by decide +kernel) ⟨(Nat.le_of_ble_eq_true rfl), (Nat.le_of_ble_eq_true rfl)⟩) (c_preV hG hH hS (ci := 5) rfl zb5) rfl rfl hl.1 (by rw [yb5]; rfl) (lv_room (Nat.le_of_ble_eq_true rfl)) dX5_sees_13 ⟨f1, f2⟩) (fun H locs hH hS => ?_)
  refine c_aload_n hx hb dX5_sees_16 rfl (lv_at hl 0 rfl) ?_
  replace z := ob z
  obtain ⟨v7, zv7, z⟩ := z
  obtain ⟨fsv7, yv7, zv7⟩ := gR_e zv7
  refine c_get S hG hH (ci := 5) (k := 5) rfl in_X5 (Nat.le_of_ble_eq_true rfl) q439 (fun _ y => y) yv7 zv7 dX5_sees_17 ?_
  refine lv_iload_n hx hb dX5_sees_20 rfl (lv_at hl 1 rfl) ?_
  refine lv_sipush (v := (9999 : Int32)) hx hb dX5_sees_21 (by decide) ?_
  refine c_aload_n hx hb dX5_sees_24 rfl (lv_at hl 0 rfl) ?_
  replace z := ob z
  obtain ⟨v8, zv8, z⟩ := z
  obtain ⟨fsv8, yv8, zv8⟩ := gR_e zv8
  refine c_get S hG hH (ci := 5) (k := 5) rfl in_X5 (Nat.le_of_ble_eq_true rfl) q439 (fun _ y => y) yv8 zv8 dX5_sees_25 ?_
  refine lv_iload_n hx hb dX5_sees_28 rfl (lv_at hl 1 rfl) ?_
  replace z := ob z
  obtain ⟨v9, zv9, z⟩ := z
  refine c_iald S hG hH zv9 dX5_sees_29 ?_
  refine lv_iconst (v := (1 : Int32)) hx hb dX5_sees_30 (by decide) ?_
  refine lv_iadd hx hb dX5_sees_31 ?_
  replace z := ob z
  obtain ⟨x10, zx10, z⟩ := z
  refine c_calli hH hS hRM (fun _ _ f1 f2 => va_runS (As := [.int (9999 : Int32), .int (v9 + (1 : Int32))]) (rest := [.int a1, va_rf v7]) S (metJ12_min zx10) (va_cwS 2 hts (lw_S q1525 q898 q187 q899) rfl rfl rfl (by decide +kernel) ⟨(Nat.le_of_ble_eq_true rfl), (Nat.le_of_ble_eq_true rfl)⟩) (c_pre hG hH hS) rfl rfl hl.1 rfl (lv_room (by simp [ct_r, ct_i, ct_l])) dX5_sees_32 ⟨f1, f2⟩) (fun H locs hH hS => ?_)
  replace z := ob z
  obtain ⟨h11, zh11, z⟩ := z
  refine c_iast S hG hH hS zh11 dX5_sees_35 (fun H locs hH hS => ?_)
  refine c_aload_n hx hb dX5_sees_36 rfl (lv_at hl 0 rfl) ?_
  replace z := ob z
  obtain ⟨v12, zv12, z⟩ := z
  obtain ⟨fsv12, yv12, zv12⟩ := gR_e zv12
  refine c_get S hG hH (ci := 5) (k := 10) rfl in_X5 (Nat.le_of_ble_eq_true rfl) q449 (fun _ y => y) yv12 zv12 dX5_sees_37 ?_
  refine lv_iload_n hx hb dX5_sees_40 rfl (lv_at hl 1 rfl) ?_
  refine lv_iload_n hx hb dX5_sees_41 rfl (lv_at hl 2 rfl) ?_
  replace z := ob z
  obtain ⟨b13, zb13, z⟩ := z
  obtain ⟨yb13, zb13⟩ := rcv_e zb13
  replace z := ob z
  obtain ⟨x14, zx14, z⟩ := z
  refine c_calli hH hS hRM (fun _ _ f1 f2 => va_runVN (b := b13) (As := [.int a1, .int a2]) (rest := []) S (metX0_worthOf zx14) ⟨va_cnB 2 hts (lw_meth q1474) rfl rfl rfl (hG.2.1.2.1 _ _ _ _ q1526) (hts _ q167) (by decide +kernel) ⟨(Nat.le_of_ble_eq_true rfl), (Nat.le_of_ble_eq_true rfl)⟩, hts _ q1473, hts _ qs46⟩ (c_preV hG hH hS (ci := 0) rfl zb13) rfl rfl hl.1 (by rw [yb13]; rfl) (lv_room (Nat.le_of_ble_eq_true rfl)) dX5_sees_42 ⟨f1, f2⟩) (fun H locs hH hS => ?_)
  refine c_aload_n hx hb dX5_sees_45 rfl (lv_at hl 0 rfl) ?_
  replace z := ob z
  obtain ⟨v15, zv15, z⟩ := z
  obtain ⟨fsv15, yv15, zv15⟩ := gI_e zv15
  refine c_get S hG hH (ci := 5) (k := 1) rfl in_X5 (Nat.le_of_ble_eq_true rfl) q431 (fun _ y => y) yv15 zv15 dX5_sees_46 ?_
  refine lv_iload_n hx hb dX5_sees_49 rfl (lv_at hl 1 rfl) ?_
  replace z := ob z
  obtain ⟨x16, zx16, z⟩ := z
  refine c_calli hH hS hRM (fun _ _ f1 f2 => va_runSN (As := [.int v15, .int a1]) (rest := [.int x14]) S (metX0_has zx16) ⟨va_cnB 2 hts (lw_meth q976) rfl rfl rfl (hG.2.1.2.1 _ _ _ _ q1370) (hts _ q167) (by decide +kernel) ⟨(Nat.le_of_ble_eq_true rfl), (Nat.le_of_ble_eq_true rfl)⟩, hts _ q975, trivial⟩ (c_pre hG hH hS) rfl rfl hl.1 rfl (lv_room (Nat.le_of_ble_eq_true rfl)) dX5_sees_50 ⟨f1, f2⟩) (fun H locs hH hS => ?_)
  refine lv_if_eq (tgt := 69) hx hb dX5_sees_53 (by decide) (fun c17 => ?_) (fun c17 => ?_)
  · replace z := it c17 z
    refine lv_iconst (v := (0 : Int32)) hx hb dX5_sees_69 (by decide) ?_
    exact wX5_sees_70 S hr hlk hnm hG hRM h11 a1 x14 (0 : Int32) z _ _ hH hS _ (lv_sub hl [0, 1] rfl)
  replace z := ie c17 z
  refine c_aload_n hx hb dX5_sees_56 rfl (lv_at hl 0 rfl) ?_
  replace z := ob z
  obtain ⟨v18, zv18, z⟩ := z
  obtain ⟨fsv18, yv18, zv18⟩ := gR_e zv18
  refine c_get S hG hH (ci := 5) (k := 10) rfl in_X5 (Nat.le_of_ble_eq_true rfl) q449 (fun _ y => y) yv18 zv18 dX5_sees_57 ?_
  replace z := ob z
  obtain ⟨v19, zv19, z⟩ := z
  obtain ⟨fsv19, yv19, zv19⟩ := gR_e zv19
  refine c_getN S hG hH (ci := 0) (k := 0) rfl in_X0 (Nat.le_of_ble_eq_true rfl) q477 (fun _ y => y) yv19 zv19 dX5_sees_60 ?_
  replace z := ob z
  obtain ⟨v20, zv20, z⟩ := z
  obtain ⟨fsv20, yv20, zv20⟩ := gI_e zv20
  refine c_getN S hG hH (ci := 1) (k := 4) rfl in_X1 (Nat.le_of_ble_eq_true rfl) q259 (fun _ y => y) yv20 zv20 dX5_sees_63 ?_
  refine lv_goto (tgt := 70) hx hb dX5_sees_66 (by decide) ?_
  exact wX5_sees_70 S hr hlk hnm hG hRM h11 a1 x14 v20 z _ _ hH hS _ (lv_sub hl [0, 1] rfl)
/-! FourOnOne$State.passes()I -/
def fX5_passes_105 (K : KE) (a0 : Nat) (k9 : HS → Int32 → Int32 → Option (HS × Int32)) (h : HS) (a1 : Int32) (a2 : Int32) : Option (HS × Int32) :=
  k9 h a1 (a2 + (1 : Int32))
def fX5_passes_47 (K : KE) (a0 : Nat) (k9 : HS → Int32 → Int32 → Option (HS × Int32)) (h : HS) (a1 : Int32) (a2 : Int32) (t0 : Int32) : Option (HS × Int32) :=
  if t0 = (-1 : Int32) then
    fX5_passes_105 K a0 k9 h a1 a2
  else
  (gR K h (some a0) 5 10).bind fun v2 =>
  (gR K h v2 0 0).bind fun v3 =>
  (gI K h v3 1 2).bind fun v4 =>
  if a1 = v4 then
    (gR K h (some a0) 5 8).bind fun v10 =>
    (cI K h v10 0 a2).bind fun v11 =>
    (sC h v10 0 a2 (v11 + (1 : Int32))).bind fun h12 =>
    fX5_passes_105 K a0 k9 h12 a1 a2
  else
  (rcv K h (some a0) 5).bind fun b6 =>
  (fX5_sees K h b6 a2 t0).bind fun x7 =>
  (gI K x7.1 (some a0) 5 9).bind fun v8 =>
  (pV x7.1 (some a0) 5 9 (.int (v8 ||| ((1 : Int32) <<< (t0 &&& 31))))).bind fun h9 =>
  fX5_passes_105 K a0 k9 h9 (a1 + (1 : Int32)) a2
def fX5_passes_139 (K : KE) (a0 : Nat) (k113 : HS → Int32 → Int32 → Option (HS × Int32)) : Nat → HS → Int32 → Int32 → Int32 → Option (HS × Int32)
  | 0, _, _, _, _ => none
  | n + 1, h, a1, a2, a3 =>
    (gR K h (some a0) 5 10).bind fun v1 =>
    (rcv K h v1 0).bind fun b2 =>
    (fX0_kinds K h b2).bind fun x3 =>
    if x3 ≤ a3 then
      k113 h a1 (a2 + (1 : Int32))
    else
    (gR K h (some a0) 5 10).bind fun v5 =>
    (gR K h v5 0 6).bind fun v6 =>
    (gR K h v6 4 0).bind fun v7 =>
    (gI K h (some a0) 5 0).bind fun v8 =>
    (sCL h v7 1 (0 : Int32) ((v8 - v8 / (24 : Int32) * (24 : Int32)).toInt64)).bind fun h9 =>
    (gR K h9 (some a0) 5 10).bind fun v10 =>
    (gR K h9 v10 0 6).bind fun v11 =>
    (gR K h9 v11 4 0).bind fun v12 =>
    (gR K h9 (some a0) 5 3).bind fun v13 =>
    (cR K h9 v13 8 a2).bind fun v14 =>
    (cI K h9 v14 0 a3).bind fun v15 =>
    (sCL h9 v12 1 (1 : Int32) v15.toInt64).bind fun h16 =>
    (gR K h16 (some a0) 5 3).bind fun v17 =>
    (cR K h16 v17 8 a2).bind fun v18 =>
    (gR K h16 (some a0) 5 10).bind fun v19 =>
    (gR K h16 v19 0 0).bind fun v20 =>
    (gR K h16 v20 1 10).bind fun v21 =>
    (gR K h16 (some a0) 5 10).bind fun v22 =>
    (gR K h16 v22 0 6).bind fun v23 =>
    (vAt K h16 64 v21 v23).bind fun x24 =>
    (rcv K h16 (some a0) 5).bind fun b25 =>
    (fX5_cut K h16 b25 x24).bind fun x26 =>
    (sC h16 v18 0 a3 x26).bind fun h27 =>
    fX5_passes_139 K a0 k113 n h27 a1 a2 (a3 + (1 : Int32))
def fX5_passes_235 (K : KE) (a0 : Nat) (h : HS) (a1 : Int32) : Option (HS × Int32) :=
  (gI K h (some a0) 5 0).bind fun v1 =>
  (pV h (some a0) 5 0 (.int (v1 + (1 : Int32)))).bind fun h2 =>
  some (h2, a1)
def fX5_passes_113 (K : KE) (a0 : Nat) : Nat → HS → Int32 → Int32 → Option (HS × Int32)
  | 0, _, _, _ => none
  | n + 1, h, a1, a2 =>
    (gR K h (some a0) 5 10).bind fun v1 =>
    (rcv K h v1 0).bind fun b2 =>
    (fX0_people K h b2).bind fun x3 =>
    if x3 < a2 then
      fX5_passes_235 K a0 h a1
    else
    (gR K h (some a0) 5 10).bind fun v5 =>
    (gR K h v5 0 0).bind fun v6 =>
    (gR K h v6 1 10).bind fun v7 =>
    if v7 = none then
      fX5_passes_235 K a0 h a1
    else
    fX5_passes_139 K a0 (fun h' b1 b2 => fX5_passes_113 K a0 n h' b1 b2) FU h a1 a2 (0 : Int32)
def fX5_passes_9 (K : KE) (a0 : Nat) : Nat → HS → Int32 → Int32 → Option (HS × Int32)
  | 0, _, _, _ => none
  | n + 1, h, a1, a2 =>
    (gR K h (some a0) 5 10).bind fun v1 =>
    (rcv K h v1 0).bind fun b2 =>
    (fX0_people K h b2).bind fun x3 =>
    if x3 ≤ a2 then
      fX5_passes_113 K a0 FU h a1 (0 : Int32)
    else
    (gR K h (some a0) 5 10).bind fun v5 =>
    (gI K h (some a0) 5 0).bind fun v6 =>
    (rcv K h v5 0).bind fun b7 =>
    (fX0_isFree K h b7 a2 (v6 - v6 / (24 : Int32) * (24 : Int32))).bind fun x8 =>
    if x8 = 0 then
      fX5_passes_47 K a0 (fun h' b1 b2 => fX5_passes_9 K a0 n h' b1 b2) h a1 a2 (-1 : Int32)
    else
    (rcv K h (some a0) 5).bind fun b10 =>
    (fX5_suggested K h b10 a2).bind fun x11 =>
    fX5_passes_47 K a0 (fun h' b1 b2 => fX5_passes_9 K a0 n h' b1 b2) x11.1 a1 a2 x11.2
def fX5_passes (K : KE) (h : HS) (a0 : Nat) : Option (HS × Int32) :=
  (pV h (some a0) 5 9 (.int (0 : Int32))).bind fun h1 =>
  fX5_passes_9 K a0 FU h1 (0 : Int32) (0 : Int32)
set_option maxHeartbeats 4000000 in
theorem wX5_passes_105 {p : Program} {l : Launch} {e : Env} {s : State} {m : MethodId} {args : Array Value} {below : List Frame} {meth : Method} {c : Code} {A : Nat → Prop} {D : va_G} {ac : Nat → ClassId} {K : KE} {h0 : HS} {a0 : Nat} (S : CallFix p m c cX5_passes 4 s args lw_all RX5) (hr : meth.sig.returnType = some .int) (hlk : meth.locks = false) (hnm : meth.name = "passes") (hG : GK A D ac K s) (hRM : RM K s (rmC 167 8415 K h0)) {x : HS × Int32} {k9 : HS → Int32 → Int32 → Option (HS × Int32)} (hk9 : ∀ h a1 a2, k9 h a1 a2 = some x → cGo p l e (rmC 167 8415 K h0) s m args below meth c A D ac K (MQ below (cQi A D ac K x) args s (K.2.2.1 - h0.2.1) (K.2.2.2 - h0.2.2) A) 4 9 [(0, va_rf (some a0)), (1, .int a1), (2, .int a2)] [] h) : ∀ (h : HS) (a1 : Int32) (a2 : Int32), fX5_passes_105 K a0 k9 h a1 a2 = some x → cGo p l e (rmC 167 8415 K h0) s m args below meth c A D ac K (MQ below (cQi A D ac K x) args s (K.2.2.1 - h0.2.1) (K.2.2.2 - h0.2.2) A) 4 105 [(0, va_rf (some a0)), (1, .int a1), (2, .int a2)] [] h := by
  obtain ⟨hx, hb, hml, hown, hts⟩ := id S
  intro h a1 a2 z H locs hH hS ls hl
  unfold fX5_passes_105 at z
  refine lv_iinc (v := (a2 + (1 : Int32))) (lv' := [(2, .int (a2 + (1 : Int32))), (0, va_rf (some a0)), (1, .int a1)]) hx hb dX5_passes_105 hl (k := 2) rfl rfl (by decide) rfl (fun ls hl => ?_)
  refine lv_goto (tgt := 9) hx hb dX5_passes_108 (by decide) ?_
  exact hk9 h a1 (a2 + (1 : Int32)) z _ _ hH hS _ (lv_sub hl [1, 2, 0] rfl)
set_option maxHeartbeats 4000000 in
theorem wX5_passes_47 {p : Program} {l : Launch} {e : Env} {s : State} {m : MethodId} {args : Array Value} {below : List Frame} {meth : Method} {c : Code} {A : Nat → Prop} {D : va_G} {ac : Nat → ClassId} {K : KE} {h0 : HS} {a0 : Nat} (S : CallFix p m c cX5_passes 4 s args lw_all RX5) (hr : meth.sig.returnType = some .int) (hlk : meth.locks = false) (hnm : meth.name = "passes") (hG : GK A D ac K s) (hRM : RM K s (rmC 167 8415 K h0)) {x : HS × Int32} {k9 : HS → Int32 → Int32 → Option (HS × Int32)} (hk9 : ∀ h a1 a2, k9 h a1 a2 = some x → cGo p l e (rmC 167 8415 K h0) s m args below meth c A D ac K (MQ below (cQi A D ac K x) args s (K.2.2.1 - h0.2.1) (K.2.2.2 - h0.2.2) A) 4 9 [(0, va_rf (some a0)), (1, .int a1), (2, .int a2)] [] h) : ∀ (h : HS) (a1 : Int32) (a2 : Int32) (t0 : Int32), fX5_passes_47 K a0 k9 h a1 a2 t0 = some x → cGo p l e (rmC 167 8415 K h0) s m args below meth c A D ac K (MQ below (cQi A D ac K x) args s (K.2.2.1 - h0.2.1) (K.2.2.2 - h0.2.2) A) 4 47 [(0, va_rf (some a0)), (1, .int a1), (2, .int a2)] [.int t0] h := by
  obtain ⟨hx, hb, hml, hown, hts⟩ := id S
  intro h a1 a2 t0 z H locs hH hS ls hl
  unfold fX5_passes_47 at z
  refine lv_istore_n (lv' := [(3, .int t0), (0, va_rf (some a0)), (1, .int a1), (2, .int a2)]) hx hb dX5_passes_47 rfl hl (by decide) rfl (fun ls hl => ?_)
  refine lv_iload_n hx hb dX5_passes_48 rfl (lv_at hl 0 rfl) ?_
  refine lv_iconst (v := (-1 : Int32)) hx hb dX5_passes_49 (by decide) ?_
  refine lv_icmp_ne (tgt := 56) hx hb dX5_passes_50 (by decide) (fun c1 => ?_) (fun c1 => ?_)
  rotate_left 1
  · replace z := it c1 z
    refine lv_goto (tgt := 105) hx hb dX5_passes_53 (by decide) ?_
    exact wX5_passes_105 S hr hlk hnm hG hRM hk9 h a1 a2 z _ _ hH hS _ (lv_sub hl [1, 2, 3] rfl)
  replace z := ie c1 z
  refine lv_iload_n hx hb dX5_passes_56 rfl (lv_at hl 2 rfl) ?_
  refine c_aload_n hx hb dX5_passes_57 rfl (lv_at hl 1 rfl) ?_
  replace z := ob z
  obtain ⟨v2, zv2, z⟩ := z
  obtain ⟨fsv2, yv2, zv2⟩ := gR_e zv2
  refine c_get S hG hH (ci := 5) (k := 10) rfl in_X5 (Nat.le_of_ble_eq_true rfl) q449 (fun _ y => y) yv2 zv2 dX5_passes_58 ?_
  replace z := ob z
  obtain ⟨v3, zv3, z⟩ := z
  obtain ⟨fsv3, yv3, zv3⟩ := gR_e zv3
  refine c_getN S hG hH (ci := 0) (k := 0) rfl in_X0 (Nat.le_of_ble_eq_true rfl) q477 (fun _ y => y) yv3 zv3 dX5_passes_61 ?_
  replace z := ob z
  obtain ⟨v4, zv4, z⟩ := z
  obtain ⟨fsv4, yv4, zv4⟩ := gI_e zv4
  refine c_getN S hG hH (ci := 1) (k := 2) rfl in_X1 (Nat.le_of_ble_eq_true rfl) q254 (fun _ y => y) yv4 zv4 dX5_passes_64 ?_
  refine lv_icmp_ne (tgt := 83) hx hb dX5_passes_67 (by decide) (fun c5 => ?_) (fun c5 => ?_)
  rotate_left 1
  · replace z := it c5 z
    refine c_aload_n hx hb dX5_passes_70 rfl (lv_at hl 1 rfl) ?_
    replace z := ob z
    obtain ⟨v10, zv10, z⟩ := z
    obtain ⟨fsv10, yv10, zv10⟩ := gR_e zv10
    refine c_get S hG hH (ci := 5) (k := 8) rfl in_X5 (Nat.le_of_ble_eq_true rfl) q445 (fun _ y => y) yv10 zv10 dX5_passes_71 ?_
    refine lv_iload_n hx hb dX5_passes_74 rfl (lv_at hl 3 rfl) ?_
    refine lv_dup2_11 hx hb dX5_passes_75 rfl (ct_r _) ?_
    replace z := ob z
    obtain ⟨v11, zv11, z⟩ := z
    refine c_iald S hG hH zv11 dX5_passes_76 ?_
    refine lv_iconst (v := (1 : Int32)) hx hb dX5_passes_77 (by decide) ?_
    refine lv_iadd hx hb dX5_passes_78 ?_
    replace z := ob z
    obtain ⟨h12, zh12, z⟩ := z
    refine c_iast S hG hH hS zh12 dX5_passes_79 (fun H locs hH hS => ?_)
    refine lv_goto (tgt := 105) hx hb dX5_passes_80 (by decide) ?_
    exact wX5_passes_105 S hr hlk hnm hG hRM hk9 h12 a1 a2 z _ _ hH hS _ (lv_sub hl [1, 2, 3] rfl)
  replace z := ie c5 z
  refine c_aload_n hx hb dX5_passes_83 rfl (lv_at hl 1 rfl) ?_
  refine lv_iload_n hx hb dX5_passes_84 rfl (lv_at hl 3 rfl) ?_
  refine lv_iload_n hx hb dX5_passes_85 rfl (lv_at hl 0 rfl) ?_
  replace z := ob z
  obtain ⟨b6, zb6, z⟩ := z
  obtain ⟨yb6, zb6⟩ := rcv_e zb6
  replace z := ob z
  obtain ⟨x7, zx7, z⟩ := z
  refine c_calli hH hS hRM (fun _ _ f1 f2 => va_runV (b := b6) (As := [.int a2, .int t0]) (rest := []) S (metX5_sees zx7) (cwV 2 hts (lw_V q1505 q1506 q1507 q178 q1508) rfl rfl rfl (by decide +kernel) ⟨(Nat.le_of_ble_eq_true rfl), (Nat.le_of_ble_eq_true rfl)⟩) (c_preV hG hH hS (ci := 5) rfl zb6) rfl rfl hl.1 (by rw [yb6]; rfl) (lv_room (Nat.le_of_ble_eq_true rfl)) dX5_passes_86 ⟨f1, f2⟩) (fun H locs hH hS => ?_)
  refine lv_pop hx hb dX5_passes_89 rfl ?_
  refine c_aload_n hx hb dX5_passes_90 rfl (lv_at hl 1 rfl) ?_
  refine lv_dup hx hb dX5_passes_91 rfl ?_
  replace z := ob z
  obtain ⟨v8, zv8, z⟩ := z
  obtain ⟨fsv8, yv8, zv8⟩ := gI_e zv8
  refine c_get S hG hH (ci := 5) (k := 9) rfl in_X5 (Nat.le_of_ble_eq_true rfl) q447 (fun _ y => y) yv8 zv8 dX5_passes_92 ?_
  refine lv_iconst (v := (1 : Int32)) hx hb dX5_passes_95 (by decide) ?_
  refine lv_iload_n hx hb dX5_passes_96 rfl (lv_at hl 0 rfl) ?_
  refine lv_ishl hx hb dX5_passes_97 ?_
  refine lv_ior hx hb dX5_passes_98 ?_
  replace z := ob z
  obtain ⟨h9, zh9, z⟩ := z
  refine c_put S hG hH hS (ci := 5) (k := 9) rfl in_X5 tyX5 tyX5_ok nmX5 (Nat.le_of_ble_eq_true rfl) q447 (fun _ y => y) rfl (ty := .int) rfl rfl rfl zh9 dX5_passes_99 (fun H locs hH hS => ?_)
  refine lv_iinc (v := (a1 + (1 : Int32))) (lv' := [(1, .int (a1 + (1 : Int32))), (3, .int t0), (0, va_rf (some a0)), (2, .int a2)]) hx hb dX5_passes_102 hl (k := 2) rfl rfl (by decide) rfl (fun ls hl => ?_)
  exact wX5_passes_105 S hr hlk hnm hG hRM hk9 h9 (a1 + (1 : Int32)) a2 z _ _ hH hS _ (lv_sub hl [2, 0, 3] rfl)
set_option maxHeartbeats 4000000 in
theorem wX5_passes_139 {p : Program} {l : Launch} {e : Env} {s : State} {m : MethodId} {args : Array Value} {below : List Frame} {meth : Method} {c : Code} {A : Nat → Prop} {D : va_G} {ac : Nat → ClassId} {K : KE} {h0 : HS} {a0 : Nat} (S : CallFix p m c cX5_passes 4 s args lw_all RX5) (hr : meth.sig.returnType = some .int) (hlk : meth.locks = false) (hnm : meth.name = "passes") (hG : GK A D ac K s) (hRM : RM K s (rmC 167 8415 K h0)) {x : HS × Int32} {k113 : HS → Int32 → Int32 → Option (HS × Int32)} (hk113 : ∀ h a1 a2, k113 h a1 a2 = some x → cGo p l e (rmC 167 8415 K h0) s m args below meth c A D ac K (MQ below (cQi A D ac K x) args s (K.2.2.1 - h0.2.1) (K.2.2.2 - h0.2.2) A) 4 113 [(0, va_rf (some a0)), (1, .int a1), (2, .int a2)] [] h) : ∀ (n : Nat) (h : HS) (a1 : Int32) (a2 : Int32) (a3 : Int32), fX5_passes_139 K a0 k113 n h a1 a2 a3 = some x → cGo p l e (rmC 167 8415 K h0) s m args below meth c A D ac K (MQ below (cQi A D ac K x) args s (K.2.2.1 - h0.2.1) (K.2.2.2 - h0.2.2) A) 4 139 [(0, va_rf (some a0)), (1, .int a1), (2, .int a2), (3, .int a3)] [] h := by
  obtain ⟨hx, hb, hml, hown, hts⟩ := id S
  intro n
  induction n with
  | zero => intro h a1 a2 a3 z; cases z
  | succ n ih =>
    intro h a1 a2 a3 z H locs hH hS ls hl
    rw [fX5_passes_139] at z
    refine lv_iload_n hx hb dX5_passes_139 rfl (lv_at hl 3 rfl) ?_
    refine c_aload_n hx hb dX5_passes_140 rfl (lv_at hl 0 rfl) ?_
    replace z := ob z
    obtain ⟨v1, zv1, z⟩ := z
    obtain ⟨fsv1, yv1, zv1⟩ := gR_e zv1
    refine c_get S hG hH (ci := 5) (k := 10) rfl in_X5 (Nat.le_of_ble_eq_true rfl) q449 (fun _ y => y) yv1 zv1 dX5_passes_141 ?_
    replace z := ob z
    obtain ⟨b2, zb2, z⟩ := z
    obtain ⟨yb2, zb2⟩ := rcv_e zb2
    replace z := ob z
    obtain ⟨x3, zx3, z⟩ := z
    refine c_calli hH hS hRM (fun _ _ f1 f2 => va_runVN (b := b2) (As := []) (rest := [.int a3]) S (metX0_kinds zx3) ⟨va_cnB 0 hts (lw_meth q1271) rfl rfl rfl (hG.2.1.2.1 _ _ _ _ q1385) (hts _ q167) (by decide +kernel) ⟨(Nat.le_of_ble_eq_true rfl), (Nat.le_of_ble_eq_true rfl)⟩, hts _ q1270, hts _ qs35⟩ (c_preV hG hH hS (ci := 0) rfl zb2) rfl rfl hl.1 (by rw [yb2]; rfl) (lv_room (Nat.le_of_ble_eq_true rfl)) dX5_passes_144 ⟨f1, f2⟩) (fun H locs hH hS => ?_)
    refine lv_icmp_ge (tgt := 229) hx hb dX5_passes_147 (by decide) (fun c4 => ?_) (fun c4 => ?_)
    · replace z := it c4 z
      refine lv_iinc (v := (a2 + (1 : Int32))) (lv' := [(2, .int (a2 + (1 : Int32))), (0, va_rf (some a0)), (1, .int a1), (3, .int a3)]) hx hb dX5_passes_229 hl (k := 2) rfl rfl (by decide) rfl (fun ls hl => ?_)
      refine lv_goto (tgt := 113) hx hb dX5_passes_232 (by decide) ?_
      exact hk113 h a1 (a2 + (1 : Int32)) z _ _ hH hS _ (lv_sub hl [1, 2, 0] rfl)
    replace z := ie c4 z
    refine c_aload_n hx hb dX5_passes_150 rfl (lv_at hl 0 rfl) ?_
    replace z := ob z
    obtain ⟨v5, zv5, z⟩ := z
    obtain ⟨fsv5, yv5, zv5⟩ := gR_e zv5
    refine c_get S hG hH (ci := 5) (k := 10) rfl in_X5 (Nat.le_of_ble_eq_true rfl) q449 (fun _ y => y) yv5 zv5 dX5_passes_151 ?_
    replace z := ob z
    obtain ⟨v6, zv6, z⟩ := z
    obtain ⟨fsv6, yv6, zv6⟩ := gR_e zv6
    refine c_getN S hG hH (ci := 0) (k := 6) rfl in_X0 (Nat.le_of_ble_eq_true rfl) q485 (fun _ y => y) yv6 zv6 dX5_passes_154 ?_
    replace z := ob z
    obtain ⟨v7, zv7, z⟩ := z
    obtain ⟨fsv7, yv7, zv7⟩ := gR_e zv7
    refine c_getN S hG hH (ci := 4) (k := 0) rfl in_X4 (Nat.le_of_ble_eq_true rfl) q415 (fun _ y => y) yv7 zv7 dX5_passes_157 ?_
    refine lv_iconst (v := (0 : Int32)) hx hb dX5_passes_160 (by decide) ?_
    refine c_aload_n hx hb dX5_passes_161 rfl (lv_at hl 0 rfl) ?_
    replace z := ob z
    obtain ⟨v8, zv8, z⟩ := z
    obtain ⟨fsv8, yv8, zv8⟩ := gI_e zv8
    refine c_get S hG hH (ci := 5) (k := 0) rfl in_X5 (Nat.le_of_ble_eq_true rfl) q429 (fun _ y => y) yv8 zv8 dX5_passes_162 ?_
    refine lv_bipush (v := (24 : Int32)) hx hb dX5_passes_165 (by decide) ?_
    refine lv_irem hx hb dX5_passes_167 (by decide) ?_
    refine lv_i2l (v := (v8 - v8 / (24 : Int32) * (24 : Int32)).toInt64) hx hb dX5_passes_168 rfl ?_
    replace z := ob z
    obtain ⟨h9, zh9, z⟩ := z
    refine c_last S hG hH hS zh9 dX5_passes_169 (fun H locs hH hS => ?_)
    refine c_aload_n hx hb dX5_passes_170 rfl (lv_at hl 0 rfl) ?_
    replace z := ob z
    obtain ⟨v10, zv10, z⟩ := z
    obtain ⟨fsv10, yv10, zv10⟩ := gR_e zv10
    refine c_get S hG hH (ci := 5) (k := 10) rfl in_X5 (Nat.le_of_ble_eq_true rfl) q449 (fun _ y => y) yv10 zv10 dX5_passes_171 ?_
    replace z := ob z
    obtain ⟨v11, zv11, z⟩ := z
    obtain ⟨fsv11, yv11, zv11⟩ := gR_e zv11
    refine c_getN S hG hH (ci := 0) (k := 6) rfl in_X0 (Nat.le_of_ble_eq_true rfl) q485 (fun _ y => y) yv11 zv11 dX5_passes_174 ?_
    replace z := ob z
    obtain ⟨v12, zv12, z⟩ := z
    obtain ⟨fsv12, yv12, zv12⟩ := gR_e zv12
    refine c_getN S hG hH (ci := 4) (k := 0) rfl in_X4 (Nat.le_of_ble_eq_true rfl) q415 (fun _ y => y) yv12 zv12 dX5_passes_177 ?_
    refine lv_iconst (v := (1 : Int32)) hx hb dX5_passes_180 (by decide) ?_
    refine c_aload_n hx hb dX5_passes_181 rfl (lv_at hl 0 rfl) ?_
    replace z := ob z
    obtain ⟨v13, zv13, z⟩ := z
    obtain ⟨fsv13, yv13, zv13⟩ := gR_e zv13
    refine c_get S hG hH (ci := 5) (k := 3) rfl in_X5 (Nat.le_of_ble_eq_true rfl) q435 (fun _ y => y) yv13 zv13 dX5_passes_182 ?_
    refine lv_iload_n hx hb dX5_passes_185 rfl (lv_at hl 2 rfl) ?_
    replace z := ob z
    obtain ⟨v14, zv14, z⟩ := z
    refine c_aald S hG hH 8 rfl rfl zv14 dX5_passes_186 ?_
    refine lv_iload_n hx hb dX5_passes_187 rfl (lv_at hl 3 rfl) ?_
    replace z := ob z
    obtain ⟨v15, zv15, z⟩ := z
    refine c_iald S hG hH zv15 dX5_passes_188 ?_
    refine lv_i2l (v := v15.toInt64) hx hb dX5_passes_189 rfl ?_
    replace z := ob z
    obtain ⟨h16, zh16, z⟩ := z
    refine c_last S hG hH hS zh16 dX5_passes_190 (fun H locs hH hS => ?_)
    refine c_aload_n hx hb dX5_passes_191 rfl (lv_at hl 0 rfl) ?_
    replace z := ob z
    obtain ⟨v17, zv17, z⟩ := z
    obtain ⟨fsv17, yv17, zv17⟩ := gR_e zv17
    refine c_get S hG hH (ci := 5) (k := 3) rfl in_X5 (Nat.le_of_ble_eq_true rfl) q435 (fun _ y => y) yv17 zv17 dX5_passes_192 ?_
    refine lv_iload_n hx hb dX5_passes_195 rfl (lv_at hl 2 rfl) ?_
    replace z := ob z
    obtain ⟨v18, zv18, z⟩ := z
    refine c_aald S hG hH 8 rfl rfl zv18 dX5_passes_196 ?_
    refine lv_iload_n hx hb dX5_passes_197 rfl (lv_at hl 3 rfl) ?_
    refine c_aload_n hx hb dX5_passes_198 rfl (lv_at hl 0 rfl) ?_
    refine c_aload_n hx hb dX5_passes_199 rfl (lv_at hl 0 rfl) ?_
    replace z := ob z
    obtain ⟨v19, zv19, z⟩ := z
    obtain ⟨fsv19, yv19, zv19⟩ := gR_e zv19
    refine c_get S hG hH (ci := 5) (k := 10) rfl in_X5 (Nat.le_of_ble_eq_true rfl) q449 (fun _ y => y) yv19 zv19 dX5_passes_200 ?_
    replace z := ob z
    obtain ⟨v20, zv20, z⟩ := z
    obtain ⟨fsv20, yv20, zv20⟩ := gR_e zv20
    refine c_getN S hG hH (ci := 0) (k := 0) rfl in_X0 (Nat.le_of_ble_eq_true rfl) q477 (fun _ y => y) yv20 zv20 dX5_passes_203 ?_
    replace z := ob z
    obtain ⟨v21, zv21, z⟩ := z
    obtain ⟨fsv21, yv21, zv21⟩ := gR_e zv21
    refine c_getN S hG hH (ci := 1) (k := 10) rfl in_X1 (Nat.le_of_ble_eq_true rfl) q274 (fun _ y => y) yv21 zv21 dX5_passes_206 ?_
    refine c_aload_n hx hb dX5_passes_209 rfl (lv_at hl 0 rfl) ?_
    replace z := ob z
    obtain ⟨v22, zv22, z⟩ := z
    obtain ⟨fsv22, yv22, zv22⟩ := gR_e zv22
    refine c_get S hG hH (ci := 5) (k := 10) rfl in_X5 (Nat.le_of_ble_eq_true rfl) q449 (fun _ y => y) yv22 zv22 dX5_passes_210 ?_
    replace z := ob z
    obtain ⟨v23, zv23, z⟩ := z
    obtain ⟨fsv23, yv23, zv23⟩ := gR_e zv23
    refine c_getN S hG hH (ci := 0) (k := 6) rfl in_X0 (Nat.le_of_ble_eq_true rfl) q485 (fun _ y => y) yv23 zv23 dX5_passes_213 ?_
    replace z := ob z
    obtain ⟨x24, zx24, z⟩ := z
    refine c_vat S hG hH hS hRM q1517 (vAt_ok _) zx24 ⟨(Nat.le_of_ble_eq_true rfl), (Nat.le_of_ble_eq_true rfl)⟩ hl.1 (by simp [ct_r, ct_i, ct_l]) dX5_passes_216 (fun H locs hH hS => ?_)
    replace z := ob z
    obtain ⟨b25, zb25, z⟩ := z
    obtain ⟨yb25, zb25⟩ := rcv_e zb25
    replace z := ob z
    obtain ⟨x26, zx26, z⟩ := z
    refine c_calli hH hS hRM (fun _ _ f1 f2 => va_runV (b := b25) (As := [.long x24]) (rest := [.int a3, va_rf v18]) S (metX5_cut zx26) (cwV 1 hts (lw_V q1519 q1521 qs51 q178 q1522) rfl rfl rfl (by decide +kernel) ⟨(Nat.le_of_ble_eq_true rfl), (Nat.le_of_ble_eq_true rfl)⟩) (c_preV hG hH hS (ci := 5) rfl zb25) rfl rfl hl.1 (by rw [yb25]; rfl) (lv_room (by simp [ct_r, ct_i, ct_l])) dX5_passes_219 ⟨f1, f2⟩) (fun H locs hH hS => ?_)
    replace z := ob z
    obtain ⟨h27, zh27, z⟩ := z
    refine c_iast S hG hH hS zh27 dX5_passes_222 (fun H locs hH hS => ?_)
    refine lv_iinc (v := (a3 + (1 : Int32))) (lv' := [(3, .int (a3 + (1 : Int32))), (0, va_rf (some a0)), (1, .int a1), (2, .int a2)]) hx hb dX5_passes_223 hl (k := 3) rfl rfl (by decide) rfl (fun ls hl => ?_)
    refine lv_goto (tgt := 139) hx hb dX5_passes_226 (by decide) ?_
    exact ih h27 a1 a2 (a3 + (1 : Int32)) z _ _ hH hS _ (lv_sub hl [1, 2, 3, 0] rfl)
set_option maxHeartbeats 4000000 in
theorem wX5_passes_235 {p : Program} {l : Launch} {e : Env} {s : State} {m : MethodId} {args : Array Value} {below : List Frame} {meth : Method} {c : Code} {A : Nat → Prop} {D : va_G} {ac : Nat → ClassId} {K : KE} {h0 : HS} {a0 : Nat} (S : CallFix p m c cX5_passes 4 s args lw_all RX5) (hr : meth.sig.returnType = some .int) (hlk : meth.locks = false) (hnm : meth.name = "passes") (hG : GK A D ac K s) (hRM : RM K s (rmC 167 8415 K h0)) {x : HS × Int32} : ∀ (h : HS) (a1 : Int32), fX5_passes_235 K a0 h a1 = some x → cGo p l e (rmC 167 8415 K h0) s m args below meth c A D ac K (MQ below (cQi A D ac K x) args s (K.2.2.1 - h0.2.1) (K.2.2.2 - h0.2.2) A) 4 235 [(0, va_rf (some a0)), (1, .int a1)] [] h := by
  obtain ⟨hx, hb, hml, hown, hts⟩ := id S
  intro h a1 z H locs hH hS ls hl
  unfold fX5_passes_235 at z
  refine c_aload_n hx hb dX5_passes_235 rfl (lv_at hl 0 rfl) ?_
  refine lv_dup hx hb dX5_passes_236 rfl ?_
  replace z := ob z
  obtain ⟨v1, zv1, z⟩ := z
  obtain ⟨fsv1, yv1, zv1⟩ := gI_e zv1
  refine c_get S hG hH (ci := 5) (k := 0) rfl in_X5 (Nat.le_of_ble_eq_true rfl) q429 (fun _ y => y) yv1 zv1 dX5_passes_237 ?_
  refine lv_iconst (v := (1 : Int32)) hx hb dX5_passes_240 (by decide) ?_
  refine lv_iadd hx hb dX5_passes_241 ?_
  replace z := ob z
  obtain ⟨h2, zh2, z⟩ := z
  refine c_put S hG hH hS (ci := 5) (k := 0) rfl in_X5 tyX5 tyX5_ok nmX5 (Nat.le_of_ble_eq_true rfl) q429 (fun _ y => y) rfl (ty := .int) rfl rfl rfl zh2 dX5_passes_242 (fun H locs hH hS => ?_)
  refine lv_iload_n hx hb dX5_passes_245 rfl (lv_at hl 1 rfl) ?_
  exact c_iret S hr hlk rfl hH hS z dX5_passes_246
set_option maxHeartbeats 4000000 in
theorem wX5_passes_113 {p : Program} {l : Launch} {e : Env} {s : State} {m : MethodId} {args : Array Value} {below : List Frame} {meth : Method} {c : Code} {A : Nat → Prop} {D : va_G} {ac : Nat → ClassId} {K : KE} {h0 : HS} {a0 : Nat} (S : CallFix p m c cX5_passes 4 s args lw_all RX5) (hr : meth.sig.returnType = some .int) (hlk : meth.locks = false) (hnm : meth.name = "passes") (hG : GK A D ac K s) (hRM : RM K s (rmC 167 8415 K h0)) {x : HS × Int32} : ∀ (n : Nat) (h : HS) (a1 : Int32) (a2 : Int32), fX5_passes_113 K a0 n h a1 a2 = some x → cGo p l e (rmC 167 8415 K h0) s m args below meth c A D ac K (MQ below (cQi A D ac K x) args s (K.2.2.1 - h0.2.1) (K.2.2.2 - h0.2.2) A) 4 113 [(0, va_rf (some a0)), (1, .int a1), (2, .int a2)] [] h := by
  obtain ⟨hx, hb, hml, hown, hts⟩ := id S
  intro n
  induction n with
  | zero => intro h a1 a2 z; cases z
  | succ n ih =>
    intro h a1 a2 z H locs hH hS ls hl
    rw [fX5_passes_113] at z
    refine lv_iload_n hx hb dX5_passes_113 rfl (lv_at hl 2 rfl) ?_
    refine c_aload_n hx hb dX5_passes_114 rfl (lv_at hl 0 rfl) ?_
    replace z := ob z
    obtain ⟨v1, zv1, z⟩ := z
    obtain ⟨fsv1, yv1, zv1⟩ := gR_e zv1
    refine c_get S hG hH (ci := 5) (k := 10) rfl in_X5 (Nat.le_of_ble_eq_true rfl) q449 (fun _ y => y) yv1 zv1 dX5_passes_115 ?_
    replace z := ob z
    obtain ⟨b2, zb2, z⟩ := z
    obtain ⟨yb2, zb2⟩ := rcv_e zb2
    replace z := ob z
    obtain ⟨x3, zx3, z⟩ := z
    refine c_calli hH hS hRM (fun _ _ f1 f2 => va_runVN (b := b2) (As := []) (rest := [.int a2]) S (metX0_people zx3) ⟨va_cnB 0 hts (lw_meth q1281) rfl rfl rfl (hG.2.1.2.1 _ _ _ _ q1499) (hts _ q167) (by decide +kernel) ⟨(Nat.le_of_ble_eq_true rfl), (Nat.le_of_ble_eq_true rfl)⟩, hts _ q1280, hts _ qs37⟩ (c_preV hG hH hS (ci := 0) rfl zb2) rfl rfl hl.1 (by rw [yb2]; rfl) (lv_room (Nat.le_of_ble_eq_true rfl)) dX5_passes_118 ⟨f1, f2⟩) (fun H locs hH hS => ?_)
    refine lv_icmp_gt (tgt := 235) hx hb dX5_passes_121 (by decide) (fun c4 => ?_) (fun c4 => ?_)
    · replace z := it c4 z
      exact wX5_passes_235 S hr hlk hnm hG hRM h a1 z _ _ hH hS _ (lv_sub hl [0, 1] rfl)
    replace z := ie c4 z
    refine c_aload_n hx hb dX5_passes_124 rfl (lv_at hl 0 rfl) ?_
    replace z := ob z
    obtain ⟨v5, zv5, z⟩ := z
    obtain ⟨fsv5, yv5, zv5⟩ := gR_e zv5
    refine c_get S hG hH (ci := 5) (k := 10) rfl in_X5 (Nat.le_of_ble_eq_true rfl) q449 (fun _ y => y) yv5 zv5 dX5_passes_125 ?_
    replace z := ob z
    obtain ⟨v6, zv6, z⟩ := z
    obtain ⟨fsv6, yv6, zv6⟩ := gR_e zv6
    refine c_getN S hG hH (ci := 0) (k := 0) rfl in_X0 (Nat.le_of_ble_eq_true rfl) q477 (fun _ y => y) yv6 zv6 dX5_passes_128 ?_
    replace z := ob z
    obtain ⟨v7, zv7, z⟩ := z
    obtain ⟨fsv7, yv7, zv7⟩ := gR_e zv7
    refine c_getN S hG hH (ci := 1) (k := 10) rfl in_X1 (Nat.le_of_ble_eq_true rfl) q274 (fun _ y => y) yv7 zv7 dX5_passes_131 ?_
    refine c_ifnull (tgt := 235) hx hb dX5_passes_134 (by decide) (fun c8 => ?_) (fun c8 => ?_)
    · replace z := it c8 z
      exact wX5_passes_235 S hr hlk hnm hG hRM h a1 z _ _ hH hS _ (lv_sub hl [0, 1] rfl)
    replace z := ie c8 z
    refine lv_iconst (v := (0 : Int32)) hx hb dX5_passes_137 (by decide) ?_
    refine lv_istore_n (lv' := [(3, .int (0 : Int32)), (0, va_rf (some a0)), (1, .int a1), (2, .int a2)]) hx hb dX5_passes_138 rfl hl (by decide) rfl (fun ls hl => ?_)
    exact wX5_passes_139 S hr hlk hnm hG hRM ih FU h a1 a2 (0 : Int32) z _ _ hH hS _ (lv_sub hl [1, 2, 3, 0] rfl)
set_option maxHeartbeats 4000000 in
theorem wX5_passes_9 {p : Program} {l : Launch} {e : Env} {s : State} {m : MethodId} {args : Array Value} {below : List Frame} {meth : Method} {c : Code} {A : Nat → Prop} {D : va_G} {ac : Nat → ClassId} {K : KE} {h0 : HS} {a0 : Nat} (S : CallFix p m c cX5_passes 4 s args lw_all RX5) (hr : meth.sig.returnType = some .int) (hlk : meth.locks = false) (hnm : meth.name = "passes") (hG : GK A D ac K s) (hRM : RM K s (rmC 167 8415 K h0)) {x : HS × Int32} : ∀ (n : Nat) (h : HS) (a1 : Int32) (a2 : Int32), fX5_passes_9 K a0 n h a1 a2 = some x → cGo p l e (rmC 167 8415 K h0) s m args below meth c A D ac K (MQ below (cQi A D ac K x) args s (K.2.2.1 - h0.2.1) (K.2.2.2 - h0.2.2) A) 4 9 [(0, va_rf (some a0)), (1, .int a1), (2, .int a2)] [] h := by
  obtain ⟨hx, hb, hml, hown, hts⟩ := id S
  intro n
  induction n with
  | zero => intro h a1 a2 z; cases z
  | succ n ih =>
    intro h a1 a2 z H locs hH hS ls hl
    rw [fX5_passes_9] at z
    refine lv_iload_n hx hb dX5_passes_9 rfl (lv_at hl 2 rfl) ?_
    refine c_aload_n hx hb dX5_passes_10 rfl (lv_at hl 0 rfl) ?_
    replace z := ob z
    obtain ⟨v1, zv1, z⟩ := z
    obtain ⟨fsv1, yv1, zv1⟩ := gR_e zv1
    refine c_get S hG hH (ci := 5) (k := 10) rfl in_X5 (Nat.le_of_ble_eq_true rfl) q449 (fun _ y => y) yv1 zv1 dX5_passes_11 ?_
    replace z := ob z
    obtain ⟨b2, zb2, z⟩ := z
    obtain ⟨yb2, zb2⟩ := rcv_e zb2
    replace z := ob z
    obtain ⟨x3, zx3, z⟩ := z
    refine c_calli hH hS hRM (fun _ _ f1 f2 => va_runVN (b := b2) (As := []) (rest := [.int a2]) S (metX0_people zx3) ⟨va_cnB 0 hts (lw_meth q1281) rfl rfl rfl (hG.2.1.2.1 _ _ _ _ q1499) (hts _ q167) (by decide +kernel) ⟨(Nat.le_of_ble_eq_true rfl), (Nat.le_of_ble_eq_true rfl)⟩, hts _ q1280, hts _ qs37⟩ (c_preV hG hH hS (ci := 0) rfl zb2) rfl rfl hl.1 (by rw [yb2]; rfl) (lv_room (Nat.le_of_ble_eq_true rfl)) dX5_passes_14 ⟨f1, f2⟩) (fun H locs hH hS => ?_)
    refine lv_icmp_ge (tgt := 111) hx hb dX5_passes_17 (by decide) (fun c4 => ?_) (fun c4 => ?_)
    · replace z := it c4 z
      refine lv_iconst (v := (0 : Int32)) hx hb dX5_passes_111 (by decide) ?_
      refine lv_istore_n (lv' := [(2, .int (0 : Int32)), (0, va_rf (some a0)), (1, .int a1)]) hx hb dX5_passes_112 rfl hl (by decide) rfl (fun ls hl => ?_)
      exact wX5_passes_113 S hr hlk hnm hG hRM FU h a1 (0 : Int32) z _ _ hH hS _ (lv_sub hl [1, 2, 0] rfl)
    replace z := ie c4 z
    refine c_aload_n hx hb dX5_passes_20 rfl (lv_at hl 0 rfl) ?_
    replace z := ob z
    obtain ⟨v5, zv5, z⟩ := z
    obtain ⟨fsv5, yv5, zv5⟩ := gR_e zv5
    refine c_get S hG hH (ci := 5) (k := 10) rfl in_X5 (Nat.le_of_ble_eq_true rfl) q449 (fun _ y => y) yv5 zv5 dX5_passes_21 ?_
    refine lv_iload_n hx hb dX5_passes_24 rfl (lv_at hl 2 rfl) ?_
    refine c_aload_n hx hb dX5_passes_25 rfl (lv_at hl 0 rfl) ?_
    replace z := ob z
    obtain ⟨v6, zv6, z⟩ := z
    obtain ⟨fsv6, yv6, zv6⟩ := gI_e zv6
    refine c_get S hG hH (ci := 5) (k := 0) rfl in_X5 (Nat.le_of_ble_eq_true rfl) q429 (fun _ y => y) yv6 zv6 dX5_passes_26 ?_
    refine lv_bipush (v := (24 : Int32)) hx hb dX5_passes_29 (by decide) ?_
    refine lv_irem hx hb dX5_passes_31 (by decide) ?_
    replace z := ob z
    obtain ⟨b7, zb7, z⟩ := z
    obtain ⟨yb7, zb7⟩ := rcv_e zb7
    replace z := ob z
    obtain ⟨x8, zx8, z⟩ := z
    refine c_calli hH hS hRM (fun _ _ f1 f2 => va_runVN (b := b7) (As := [.int a2, .int (v6 - v6 / (24 : Int32) * (24 : Int32))]) (rest := []) S (metX0_isFree zx8) ⟨va_cnB 2 hts (lw_meth q1503) rfl rfl rfl (hG.2.1.2.1 _ _ _ _ q1500) (hts _ q167) (by decide +kernel) ⟨(Nat.le_of_ble_eq_true rfl), (Nat.le_of_ble_eq_true rfl)⟩, hts _ q1502, hts _ qs48⟩ (c_preV hG hH hS (ci := 0) rfl zb7) rfl rfl hl.1 (by rw [yb7]; rfl) (lv_room (Nat.le_of_ble_eq_true rfl)) dX5_passes_32 ⟨f1, f2⟩) (fun H locs hH hS => ?_)
    refine lv_if_eq (tgt := 46) hx hb dX5_passes_35 (by decide) (fun c9 => ?_) (fun c9 => ?_)
    · replace z := it c9 z
      refine lv_iconst (v := (-1 : Int32)) hx hb dX5_passes_46 (by decide) ?_
      exact wX5_passes_47 S hr hlk hnm hG hRM ih h a1 a2 (-1 : Int32) z _ _ hH hS _ (lv_sub hl [0, 1, 2] rfl)
    replace z := ie c9 z
    refine c_aload_n hx hb dX5_passes_38 rfl (lv_at hl 0 rfl) ?_
    refine lv_iload_n hx hb dX5_passes_39 rfl (lv_at hl 2 rfl) ?_
    replace z := ob z
    obtain ⟨b10, zb10, z⟩ := z
    obtain ⟨yb10, zb10⟩ := rcv_e zb10
    replace z := ob z
    obtain ⟨x11, zx11, z⟩ := z
    refine c_calli hH hS hRM (fun _ _ f1 f2 => va_runV (b := b10) (As := [.int a2]) (rest := []) S (metX5_suggested zx11) (cwV 1 hts (lw_V q1504 q1363 q1364 q178 q1365) rfl rfl rfl (by decide +kernel) ⟨(Nat.le_of_ble_eq_true rfl), (Nat.le_of_ble_eq_true rfl)⟩) (c_preV hG hH hS (ci := 5) rfl zb10) rfl rfl hl.1 (by rw [yb10]; rfl) (lv_room (Nat.le_of_ble_eq_true rfl)) dX5_passes_40 ⟨f1, f2⟩) (fun H locs hH hS => ?_)
    refine lv_goto (tgt := 47) hx hb dX5_passes_43 (by decide) ?_
    exact wX5_passes_47 S hr hlk hnm hG hRM ih x11.1 a1 a2 x11.2 z _ _ hH hS _ (lv_sub hl [0, 1, 2] rfl)
set_option maxHeartbeats 4000000 in
theorem metX5_passes {l : Launch} {A : Nat → Prop} {D : va_G} {ac : Nat → ClassId} {K : KE} {h : HS} {a0 : Nat} {x : HS × Int32} (z : fX5_passes K h a0 = some x) : Met l yX5_passes (ws_ yX5_passes cX5_passes 4 (some .int)) (rmC 167 8415 K h) (cP A D ac K h [va_rf (some a0)]) (cQi A D ac K x) (K.2.2.1 - h.2.1) (K.2.2.2 - h.2.2) A := by
  refine c_entry (plainFor_of_name (by decide)) (Nat.le_of_ble_eq_true rfl) ?_
  intro p e s m below meth c S hr hlk hnm hG hRM hH hS ls hl
  replace hl : lv_has ls 4 [(0, va_rf (some a0))] := hl
  replace hnm : meth.name = "passes" := hnm
  replace S : CallFix p m c cX5_passes 4 s _ lw_all RX5 := S
  obtain ⟨hx, hb, hml, hown, hts⟩ := id S
  unfold fX5_passes at z
  refine lv_iconst (v := (0 : Int32)) hx hb dX5_passes_0 (by decide) ?_
  refine lv_istore_n (lv' := [(1, .int (0 : Int32)), (0, va_rf (some a0))]) hx hb dX5_passes_1 rfl hl (by decide) rfl (fun ls hl => ?_)
  refine c_aload_n hx hb dX5_passes_2 rfl (lv_at hl 1 rfl) ?_
  refine lv_iconst (v := (0 : Int32)) hx hb dX5_passes_3 (by decide) ?_
  replace z := ob z
  obtain ⟨h1, zh1, z⟩ := z
  refine c_put S hG hH hS (ci := 5) (k := 9) rfl in_X5 tyX5 tyX5_ok nmX5 (Nat.le_of_ble_eq_true rfl) q447 (fun _ y => y) rfl (ty := .int) rfl rfl rfl zh1 dX5_passes_4 (fun H locs hH hS => ?_)
  refine lv_iconst (v := (0 : Int32)) hx hb dX5_passes_7 (by decide) ?_
  refine lv_istore_n (lv' := [(2, .int (0 : Int32)), (1, .int (0 : Int32)), (0, va_rf (some a0))]) hx hb dX5_passes_8 rfl hl (by decide) rfl (fun ls hl => ?_)
  exact wX5_passes_9 S hr hlk hnm hG hRM FU h1 (0 : Int32) (0 : Int32) z _ _ hH hS _ (lv_sub hl [2, 1, 0] rfl)

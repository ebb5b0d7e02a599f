set_option maxRecDepth 100000
/-! FourOnOne.twoAt(I)I -/
def fX0_twoAt (K : KE) (h : HS) (a0 : Nat) (a1 : Int32) : Option (Int32) :=
  (rcv K h (some a0) 0).bind fun b1 =>
  (fX0_byteAt K h b1 a1).bind fun x2 =>
  (rcv K h (some a0) 0).bind fun b3 =>
  (fX0_byteAt K h b3 (a1 + (1 : Int32))).bind fun x4 =>
  some ((x2 <<< ((8 : Int32) &&& 31)) ||| x4)
set_option maxHeartbeats 4000000 in
theorem metX0_twoAt {l : Launch} {A : Nat → Prop} {D : va_G} {ac : Nat → ClassId} {K : KE} {h : HS} {a0 : Nat} {a1 : Int32} {x : Int32} (z : fX0_twoAt K h a0 a1 = some x) : Met l yX0_twoAt (ws_ yX0_twoAt cX0_twoAt 2 (some .int)) (rmC 2 21 K h) (cP A D ac K h [va_rf (some a0), .int a1]) (cQi A D ac K (h, x)) (K.2.2.1 - h.2.1) (K.2.2.2 - h.2.2) A := by
  refine c_entry (plainFor_of_name (by decide)) (Nat.le_of_ble_eq_true rfl) ?_
  intro p e s m below meth c S hr hlk hnm hG hRM hH hS ls hl
  replace hl : lv_has ls 2 [(0, va_rf (some a0)), (1, .int a1)] := hl
  replace hnm : meth.name = "twoAt" := hnm
  replace S : CallFix p m c cX0_twoAt 2 s _ lw_all RX0 := S
  obtain ⟨hx, hb, hml, hown, hts⟩ := id S
  unfold fX0_twoAt at z
  refine c_aload_n hx hb dX0_twoAt_0 rfl (lv_at hl 0 rfl) ?_
  refine lv_iload_n hx hb dX0_twoAt_1 rfl (lv_at hl 1 rfl) ?_
  replace z := ob z
  obtain ⟨b1, zb1, z⟩ := z
  obtain ⟨yb1, zb1⟩ := rcv_e zb1
  replace z := ob z
  obtain ⟨x2, zx2, z⟩ := z
  refine c_calli hH hS hRM (fun _ _ f1 f2 => va_runV (b := b1) (As := [.int a1]) (rest := []) S (metX0_byteAt zx2) (cwV 1 hts (lw_V q1588 q1590 qs56 q167 q1591) rfl rfl rfl (by decide +kernel) ⟨(Nat.le_of_ble_eq_true rfl), (Nat.le_of_ble_eq_true rfl)⟩) (c_preV hG hH hS (ci := 0) rfl zb1) rfl rfl hl.1 (by rw [yb1]; rfl) (lv_room (Nat.le_of_ble_eq_true rfl)) dX0_twoAt_2 ⟨f1, f2⟩) (fun H locs hH hS => ?_)
  refine lv_bipush (v := (8 : Int32)) hx hb dX0_twoAt_5 (by decide) ?_
  refine lv_ishl hx hb dX0_twoAt_7 ?_
  refine c_aload_n hx hb dX0_twoAt_8 rfl (lv_at hl 0 rfl) ?_
  refine lv_iload_n hx hb dX0_twoAt_9 rfl (lv_at hl 1 rfl) ?_
  refine lv_iconst (v := (1 : Int32)) hx hb dX0_twoAt_10 (by decide) ?_
  refine lv_iadd hx hb dX0_twoAt_11 ?_
  replace z := ob z
  obtain ⟨b3, zb3, z⟩ := z
  obtain ⟨yb3, zb3⟩ := rcv_e zb3
  replace z := ob z
  obtain ⟨x4, zx4, z⟩ := z
  refine c_calli hH hS hRM (fun _ _ f1 f2 => va_runV (b := b3) (As := [.int (a1 + (1 : Int32))]) (rest := [.int (x2 <<< ((8 : Int32) &&& 31))]) S (metX0_byteAt zx4) (cwV 1 hts (lw_V q1588 q1590 qs56 q167 q1591) rfl rfl rfl (by decide +kernel) ⟨(Nat.le_of_ble_eq_true rfl), (Nat.le_of_ble_eq_true rfl)⟩) (c_preV hG hH hS (ci := 0) rfl zb3) rfl rfl hl.1 (by rw [yb3]; rfl) (lv_room (Nat.le_of_ble_eq_true rfl)) dX0_twoAt_12 ⟨f1, f2⟩) (fun H locs hH hS => ?_)
  refine lv_ior hx hb dX0_twoAt_15 ?_
  exact c_iret' S hr hlk rfl hH hS z dX0_twoAt_16
/-! FourOnOne.personOn(II)Z -/
def fX0_personOn_24 (K : KE) (a0 : Nat) (h : HS) (a1 : Int32) (a2 : Int32) (t0 : Option Nat) (t1 : Int32) (t2 : Int32) : Option (HS × Int32) :=
  (pV h t0 5 1 (.int (t1 ||| t2))).bind fun h1 =>
  (gR K h1 (some a0) 0 10).bind fun v2 =>
  (gR K h1 v2 5 5).bind fun v3 =>
  (rcv K h1 (some a0) 0).bind fun b4 =>
  (fX0_twoAt K h1 b4 (a2 + (1 : Int32))).bind fun x5 =>
  (sC h1 v3 0 a1 x5).bind fun h6 =>
  (rcv K h6 (some a0) 0).bind fun b7 =>
  (fX0_byteAt K h6 b7 a2).bind fun x8 =>
  if (2 : Int32) ≤ x8 then
    some (h6, (0 : Int32))
  else
  (gR K h6 (some a0) 0 10).bind fun v10 =>
  (gR K h6 v10 5 5).bind fun v11 =>
  (cI K h6 v11 0 a1).bind fun v12 =>
  if (9999 : Int32) < v12 then
    some (h6, (0 : Int32))
  else
  some (h6, (1 : Int32))
def fX0_personOn (K : KE) (h : HS) (a0 : Nat) (a1 : Int32) (a2 : Int32) : Option (HS × Int32) :=
  (gR K h (some a0) 0 10).bind fun v1 =>
  (gI K h v1 5 1).bind fun v2 =>
  (rcv K h (some a0) 0).bind fun b3 =>
  (fX0_byteAt K h b3 a2).bind fun x4 =>
  if x4 = (1 : Int32) then
    fX0_personOn_24 K a0 h a1 a2 v1 v2 ((1 : Int32) <<< (a1 &&& 31))
  else
  fX0_personOn_24 K a0 h a1 a2 v1 v2 (0 : Int32)
set_option maxHeartbeats 4000000 in
theorem wX0_personOn_24 {p : Program} {l : Launch} {e : Env} {s : State} {m : MethodId} {args : Array Value} {below : List Frame} {meth : Method} {c : Code} {A : Nat → Prop} {D : va_G} {ac : Nat → ClassId} {K : KE} {h0 : HS} {a0 : Nat} (S : CallFix p m c cX0_personOn 3 s args lw_all RX0) (hr : meth.sig.returnType = some .boolean) (hlk : meth.locks = false) (hnm : meth.name = "personOn") (hG : GK A D ac K s) (hRM : RM K s (rmC 3 42 K h0)) {x : HS × Int32} : ∀ (h : HS) (a1 : Int32) (a2 : Int32) (t0 : Option Nat) (t1 : Int32) (t2 : Int32), fX0_personOn_24 K a0 h a1 a2 t0 t1 t2 = some x → cGo p l e (rmC 3 42 K h0) s m args below meth c A D ac K (MQ below (cQi A D ac K x) args s (K.2.2.1 - h0.2.1) (K.2.2.2 - h0.2.2) A) 3 24 [(0, va_rf (some a0)), (1, .int a1), (2, .int a2)] [.int t2, .int t1, va_rf t0] h := by
  obtain ⟨hx, hb, hml, hown, hts⟩ := id S
  intro h a1 a2 t0 t1 t2 z H locs hH hS ls hl
  unfold fX0_personOn_24 at z
  refine lv_ior hx hb dX0_personOn_24 ?_
  replace z := ob z
  obtain ⟨h1, zh1, z⟩ := z
  refine c_putN S hG hH hS (ci := 5) (k := 1) rfl in_X5 tyX5 tyX5_ok nmX5 (Nat.le_of_ble_eq_true rfl) q432 (fun _ y => y) rfl (ty := .int) rfl rfl rfl zh1 dX0_personOn_25 (fun H locs hH hS => ?_)
  refine c_aload_n hx hb dX0_personOn_28 rfl (lv_at hl 0 rfl) ?_
  replace z := ob z
  obtain ⟨v2, zv2, z⟩ := z
  obtain ⟨fsv2, yv2, zv2⟩ := gR_e zv2
  refine c_get S hG hH (ci := 0) (k := 10) rfl in_X0 (Nat.le_of_ble_eq_true rfl) q490 (fun _ y => y) yv2 zv2 dX0_personOn_29 ?_
  replace z := ob z
  obtain ⟨v3, zv3, z⟩ := z
  obtain ⟨fsv3, yv3, zv3⟩ := gR_e zv3
  refine c_getN S hG hH (ci := 5) (k := 5) rfl in_X5 (Nat.le_of_ble_eq_true rfl) q440 (fun _ y => y) yv3 zv3 dX0_personOn_32 ?_
  refine lv_iload_n hx hb dX0_personOn_35 rfl (lv_at hl 1 rfl) ?_
  refine c_aload_n hx hb dX0_personOn_36 rfl (lv_at hl 0 rfl) ?_
  refine lv_iload_n hx hb dX0_personOn_37 rfl (lv_at hl 2 rfl) ?_
  refine lv_iconst (v := (1 : Int32)) hx hb dX0_personOn_38 (by decide) ?_
  refine lv_iadd hx hb dX0_personOn_39 ?_
  replace z := ob z
  obtain ⟨b4, zb4, z⟩ := z
  obtain ⟨yb4, zb4⟩ := rcv_e zb4
  replace z := ob z
  obtain ⟨x5, zx5, z⟩ := z
  refine c_calli hH hS hRM (fun _ _ f1 f2 => va_runV (b := b4) (As := [.int (a2 + (1 : Int32))]) (rest := [.int a1, va_rf v3]) S (metX0_twoAt zx5) (cwV 1 hts (lw_V q1710 q1712 qs62 q167 q1713) rfl rfl rfl (by decide +kernel) ⟨(Nat.le_of_ble_eq_true rfl), (Nat.le_of_ble_eq_true rfl)⟩) (c_preV hG hH hS (ci := 0) rfl zb4) rfl rfl hl.1 (by rw [yb4]; rfl) (lv_room (by simp [ct_r, ct_i, ct_l])) dX0_personOn_40 ⟨f1, f2⟩) (fun H locs hH hS => ?_)
  replace z := ob z
  obtain ⟨h6, zh6, z⟩ := z
  refine c_iast S hG hH hS zh6 dX0_personOn_43 (fun H locs hH hS => ?_)
  refine c_aload_n hx hb dX0_personOn_44 rfl (lv_at hl 0 rfl) ?_
  refine lv_iload_n hx hb dX0_personOn_45 rfl (lv_at hl 2 rfl) ?_
  replace z := ob z
  obtain ⟨b7, zb7, z⟩ := z
  obtain ⟨yb7, zb7⟩ := rcv_e zb7
  replace z := ob z
  obtain ⟨x8, zx8, z⟩ := z
  refine c_calli hH hS hRM (fun _ _ f1 f2 => va_runV (b := b7) (As := [.int a2]) (rest := []) S (metX0_byteAt zx8) (cwV 1 hts (lw_V q1588 q1590 qs56 q167 q1591) rfl rfl rfl (by decide +kernel) ⟨(Nat.le_of_ble_eq_true rfl), (Nat.le_of_ble_eq_true rfl)⟩) (c_preV hG hH hS (ci := 0) rfl zb7) rfl rfl hl.1 (by rw [yb7]; rfl) (lv_room (Nat.le_of_ble_eq_true rfl)) dX0_personOn_46 ⟨f1, f2⟩) (fun H locs hH hS => ?_)
  refine lv_iconst (v := (2 : Int32)) hx hb dX0_personOn_49 (by decide) ?_
  refine lv_icmp_ge (tgt := 72) hx hb dX0_personOn_50 (by decide) (fun c9 => ?_) (fun c9 => ?_)
  · replace z := it c9 z
    refine lv_iconst (v := (0 : Int32)) hx hb dX0_personOn_72 (by decide) ?_
    exact c_iret S hr hlk rfl hH hS z dX0_personOn_73
  replace z := ie c9 z
  refine c_aload_n hx hb dX0_personOn_53 rfl (lv_at hl 0 rfl) ?_
  replace z := ob z
  obtain ⟨v10, zv10, z⟩ := z
  obtain ⟨fsv10, yv10, zv10⟩ := gR_e zv10
  refine c_get S hG hH (ci := 0) (k := 10) rfl in_X0 (Nat.le_of_ble_eq_true rfl) q490 (fun _ y => y) yv10 zv10 dX0_personOn_54 ?_
  replace z := ob z
  obtain ⟨v11, zv11, z⟩ := z
  obtain ⟨fsv11, yv11, zv11⟩ := gR_e zv11
  refine c_getN S hG hH (ci := 5) (k := 5) rfl in_X5 (Nat.le_of_ble_eq_true rfl) q440 (fun _ y => y) yv11 zv11 dX0_personOn_57 ?_
  refine lv_iload_n hx hb dX0_personOn_60 rfl (lv_at hl 1 rfl) ?_
  replace z := ob z
  obtain ⟨v12, zv12, z⟩ := z
  refine c_iald S hG hH zv12 dX0_personOn_61 ?_
  refine lv_sipush (v := (9999 : Int32)) hx hb dX0_personOn_62 (by decide) ?_
  refine lv_icmp_gt (tgt := 72) hx hb dX0_personOn_65 (by decide) (fun c13 => ?_) (fun c13 => ?_)
  · replace z := it c13 z
    refine lv_iconst (v := (0 : Int32)) hx hb dX0_personOn_72 (by decide) ?_
    exact c_iret S hr hlk rfl hH hS z dX0_personOn_73
  replace z := ie c13 z
  refine lv_iconst (v := (1 : Int32)) hx hb dX0_personOn_68 (by decide) ?_
  refine lv_goto (tgt := 73) hx hb dX0_personOn_69 (by decide) ?_
  exact c_iret S hr hlk rfl hH hS z dX0_personOn_73
set_option maxHeartbeats 4000000 in
theorem metX0_personOn {l : Launch} {A : Nat → Prop} {D : va_G} {ac : Nat → ClassId} {K : KE} {h : HS} {a0 : Nat} {a1 : Int32} {a2 : Int32} {x : HS × Int32} (z : fX0_personOn K h a0 a1 a2 = some x) : Met l yX0_personOn (ws_ yX0_personOn cX0_personOn 3 (some .boolean)) (rmC 3 42 K h) (cP A D ac K h [va_rf (some a0), .int a1, .int a2]) (cQi A D ac K x) (K.2.2.1 - h.2.1) (K.2.2.2 - h.2.2) A := by
  refine c_entry (plainFor_of_name (by decide)) (Nat.le_of_ble_eq_true rfl) ?_
  intro p e s m below meth c S hr hlk hnm hG hRM hH hS ls hl
  replace hl : lv_has ls 3 [(0, va_rf (some a0)), (1, .int a1), (2, .int a2)] := hl
  replace hnm : meth.name = "personOn" := hnm
  replace S : CallFix p m c cX0_personOn 3 s _ lw_all RX0 := S
  obtain ⟨hx, hb, hml, hown, hts⟩ := id S
  unfold fX0_personOn at z
  refine c_aload_n hx hb dX0_personOn_0 rfl (lv_at hl 0 rfl) ?_
  replace z := ob z
  obtain ⟨v1, zv1, z⟩ := z
  obtain ⟨fsv1, yv1, zv1⟩ := gR_e zv1
  refine c_get S hG hH (ci := 0) (k := 10) rfl in_X0 (Nat.le_of_ble_eq_true rfl) q490 (fun _ y => y) yv1 zv1 dX0_personOn_1 ?_
  refine lv_dup hx hb dX0_personOn_4 (ct_r _) ?_
  replace z := ob z
  obtain ⟨v2, zv2, z⟩ := z
  obtain ⟨fsv2, yv2, zv2⟩ := gI_e zv2
  refine c_getN S hG hH (ci := 5) (k := 1) rfl in_X5 (Nat.le_of_ble_eq_true rfl) q432 (fun _ y => y) yv2 zv2 dX0_personOn_5 ?_
  refine c_aload_n hx hb dX0_personOn_8 rfl (lv_at hl 0 rfl) ?_
  refine lv_iload_n hx hb dX0_personOn_9 rfl (lv_at hl 2 rfl) ?_
  replace z := ob z
  obtain ⟨b3, zb3, z⟩ := z
  obtain ⟨yb3, zb3⟩ := rcv_e zb3
  replace z := ob z
  obtain ⟨x4, zx4, z⟩ := z
  refine c_calli hH hS hRM (fun _ _ f1 f2 => va_runV (b := b3) (As := [.int a2]) (rest := [.int v2, va_rf v1]) S (metX0_byteAt zx4) (cwV 1 hts (lw_V q1588 q1590 qs56 q167 q1591) rfl rfl rfl (by decide +kernel) ⟨(Nat.le_of_ble_eq_true rfl), (Nat.le_of_ble_eq_true rfl)⟩) (c_preV hG hH hS (ci := 0) rfl zb3) rfl rfl hl.1 (by rw [yb3]; rfl) (lv_room (by simp [ct_r, ct_i, ct_l])) dX0_personOn_10 ⟨f1, f2⟩) (fun H locs hH hS => ?_)
  refine lv_iconst (v := (1 : Int32)) hx hb dX0_personOn_13 (by decide) ?_
  refine lv_icmp_ne (tgt := 23) hx hb dX0_personOn_14 (by decide) (fun c5 => ?_) (fun c5 => ?_)
  · replace z := ie c5 z
    refine lv_iconst (v := (0 : Int32)) hx hb dX0_personOn_23 (by decide) ?_
    exact wX0_personOn_24 S hr hlk hnm hG hRM h a1 a2 v1 v2 (0 : Int32) z _ _ hH hS _ (lv_sub hl [0, 1, 2] rfl)
  replace z := it c5 z
  refine lv_iconst (v := (1 : Int32)) hx hb dX0_personOn_17 (by decide) ?_
  refine lv_iload_n hx hb dX0_personOn_18 rfl (lv_at hl 1 rfl) ?_
  refine lv_ishl hx hb dX0_personOn_19 ?_
  refine lv_goto (tgt := 24) hx hb dX0_personOn_20 (by decide) ?_
  exact wX0_personOn_24 S hr hlk hnm hG hRM h a1 a2 v1 v2 ((1 : Int32) <<< (a1 &&& 31)) z _ _ hH hS _ (lv_sub hl [0, 1, 2] rfl)
/-! FourOnOne.profileOn(II)Z -/
def fX0_profileOn_63 (K : KE) (a0 : Nat) (k5 : HS → Int32 → Int32 → Int32 → Int32 → Option (HS × Int32)) (h : HS) (a1 : Int32) (a2 : Int32) (a4 : Int32) (t0 : Int32) : Option (HS × Int32) :=
  k5 h a1 a2 t0 (a4 + (1 : Int32))
def fX0_profileOn_62 (K : KE) (a0 : Nat) (k5 : HS → Int32 → Int32 → Int32 → Int32 → Option (HS × Int32)) (h : HS) (a1 : Int32) (a2 : Int32) (a4 : Int32) : Option (HS × Int32) :=
  fX0_profileOn_63 K a0 k5 h a1 a2 a4 (0 : Int32)
def fX0_profileOn_142 (K : KE) (a0 : Nat) (k73 : HS → Int32 → Int32 → Int32 → Int32 → Option (HS × Int32)) (h : HS) (a1 : Int32) (a2 : Int32) (a4 : Int32) (t0 : Int32) : Option (HS × Int32) :=
  k73 h a1 a2 t0 (a4 + (1 : Int32))
def fX0_profileOn_141 (K : KE) (a0 : Nat) (k73 : HS → Int32 → Int32 → Int32 → Int32 → Option (HS × Int32)) (h : HS) (a1 : Int32) (a2 : Int32) (a4 : Int32) : Option (HS × Int32) :=
  fX0_profileOn_142 K a0 k73 h a1 a2 a4 (0 : Int32)
def fX0_profileOn_73 (K : KE) (a0 : Nat) : Nat → HS → Int32 → Int32 → Int32 → Int32 → Option (HS × Int32)
  | 0, _, _, _, _, _ => none
  | n + 1, h, a1, a2, a3, a4 =>
    (rcv K h (some a0) 0).bind fun b1 =>
    (fX0_films K h b1).bind fun x2 =>
    if x2 ≤ a4 then
      (zr a3).bind fun g4 =>
      some (h, a3)
    else
    (gR K h (some a0) 0 10).bind fun v5 =>
    (gR K h v5 5 4).bind fun v6 =>
    (cR K h v6 8 a1).bind fun v7 =>
    (rcv K h (some a0) 0).bind fun b8 =>
    (fX0_kinds K h b8).bind fun x9 =>
    (rcv K h (some a0) 0).bind fun b10 =>
    (fX0_byteAt K h b10 ((a2 + ((2 : Int32) * x9)) + a4)).bind fun x11 =>
    (sC h v7 0 a4 x11).bind fun h12 =>
    if a3 = 0 then
      fX0_profileOn_141 K a0 (fun h' b1 b2 b3 b4 => fX0_profileOn_73 K a0 n h' b1 b2 b3 b4) h12 a1 a2 a4
    else
    (gR K h12 (some a0) 0 10).bind fun v14 =>
    (gR K h12 v14 5 4).bind fun v15 =>
    (cR K h12 v15 8 a1).bind fun v16 =>
    (cI K h12 v16 0 a4).bind fun v17 =>
    (rcv K h12 (some a0) 0).bind fun b18 =>
    (fX0_filmOf K h12 b18 a4).bind fun x19 =>
    (gI K h12 x19 7 1).bind fun v20 =>
    if v20 < v17 then
      fX0_profileOn_141 K a0 (fun h' b1 b2 b3 b4 => fX0_profileOn_73 K a0 n h' b1 b2 b3 b4) h12 a1 a2 a4
    else
    fX0_profileOn_142 K a0 (fun h' b1 b2 b3 b4 => fX0_profileOn_73 K a0 n h' b1 b2 b3 b4) h12 a1 a2 a4 (1 : Int32)
def fX0_profileOn_5 (K : KE) (a0 : Nat) : Nat → HS → Int32 → Int32 → Int32 → Int32 → Option (HS × Int32)
  | 0, _, _, _, _, _ => none
  | n + 1, h, a1, a2, a3, a4 =>
    (rcv K h (some a0) 0).bind fun b1 =>
    (fX0_kinds K h b1).bind fun x2 =>
    if x2 ≤ a4 then
      fX0_profileOn_73 K a0 FU h a1 a2 a3 (0 : Int32)
    else
    (gR K h (some a0) 0 10).bind fun v4 =>
    (gR K h v4 5 3).bind fun v5 =>
    (cR K h v5 8 a1).bind fun v6 =>
    (rcv K h (some a0) 0).bind fun b7 =>
    (fX0_twoAt K h b7 (a2 + ((2 : Int32) * a4))).bind fun x8 =>
    (sC h v6 0 a4 x8).bind fun h9 =>
    if a3 = 0 then
      fX0_profileOn_62 K a0 (fun h' b1 b2 b3 b4 => fX0_profileOn_5 K a0 n h' b1 b2 b3 b4) h9 a1 a2 a4
    else
    (gR K h9 (some a0) 0 10).bind fun v11 =>
    (gR K h9 v11 5 3).bind fun v12 =>
    (cR K h9 v12 8 a1).bind fun v13 =>
    (cI K h9 v13 0 a4).bind fun v14 =>
    if (999 : Int32) < v14 then
      fX0_profileOn_62 K a0 (fun h' b1 b2 b3 b4 => fX0_profileOn_5 K a0 n h' b1 b2 b3 b4) h9 a1 a2 a4
    else
    fX0_profileOn_63 K a0 (fun h' b1 b2 b3 b4 => fX0_profileOn_5 K a0 n h' b1 b2 b3 b4) h9 a1 a2 a4 (1 : Int32)
def fX0_profileOn (K : KE) (h : HS) (a0 : Nat) (a1 : Int32) (a2 : Int32) : Option (HS × Int32) :=
  fX0_profileOn_5 K a0 FU h a1 a2 (1 : Int32) (0 : Int32)
set_option maxHeartbeats 4000000 in
theorem wX0_profileOn_63 {p : Program} {l : Launch} {e : Env} {s : State} {m : MethodId} {args : Array Value} {below : List Frame} {meth : Method} {c : Code} {A : Nat → Prop} {D : va_G} {ac : Nat → ClassId} {K : KE} {h0 : HS} {a0 : Nat} (S : CallFix p m c cX0_profileOn 5 s args lw_all RX0) (hr : meth.sig.returnType = some .boolean) (hlk : meth.locks = false) (hnm : meth.name = "profileOn") (hG : GK A D ac K s) (hRM : RM K s (rmC 5 85 K h0)) {x : HS × Int32} {k5 : HS → Int32 → Int32 → Int32 → Int32 → Option (HS × Int32)} (hk5 : ∀ h a1 a2 a3 a4, k5 h a1 a2 a3 a4 = some x → cGo p l e (rmC 5 85 K h0) s m args below meth c A D ac K (MQ below (cQi A D ac K x) args s (K.2.2.1 - h0.2.1) (K.2.2.2 - h0.2.2) A) 5 5 [(0, va_rf (some a0)), (1, .int a1), (2, .int a2), (3, .int a3), (4, .int a4)] [] h) : ∀ (h : HS) (a1 : Int32) (a2 : Int32) (a4 : Int32) (t0 : Int32), fX0_profileOn_63 K a0 k5 h a1 a2 a4 t0 = some x → cGo p l e (rmC 5 85 K h0) s m args below meth c A D ac K (MQ below (cQi A D ac K x) args s (K.2.2.1 - h0.2.1) (K.2.2.2 - h0.2.2) A) 5 63 [(0, va_rf (some a0)), (1, .int a1), (2, .int a2), (4, .int a4)] [.int t0] h := by
  obtain ⟨hx, hb, hml, hown, hts⟩ := id S
  intro h a1 a2 a4 t0 z H locs hH hS ls hl
  unfold fX0_profileOn_63 at z
  refine lv_istore_n (lv' := [(3, .int t0), (0, va_rf (some a0)), (1, .int a1), (2, .int a2), (4, .int a4)]) hx hb dX0_profileOn_63 rfl hl (by decide) rfl (fun ls hl => ?_)
  refine lv_iinc (v := (a4 + (1 : Int32))) (lv' := [(4, .int (a4 + (1 : Int32))), (3, .int t0), (0, va_rf (some a0)), (1, .int a1), (2, .int a2)]) hx hb dX0_profileOn_64 hl (k := 4) rfl rfl (by decide) rfl (fun ls hl => ?_)
  refine lv_goto (tgt := 5) hx hb dX0_profileOn_67 (by decide) ?_
  exact hk5 h a1 a2 t0 (a4 + (1 : Int32)) z _ _ hH hS _ (lv_sub hl [2, 3, 4, 1, 0] rfl)
set_option maxHeartbeats 4000000 in
theorem wX0_profileOn_62 {p : Program} {l : Launch} {e : Env} {s : State} {m : MethodId} {args : Array Value} {below : List Frame} {meth : Method} {c : Code} {A : Nat → Prop} {D : va_G} {ac : Nat → ClassId} {K : KE} {h0 : HS} {a0 : Nat} (S : CallFix p m c cX0_profileOn 5 s args lw_all RX0) (hr : meth.sig.returnType = some .boolean) (hlk : meth.locks = false) (hnm : meth.name = "profileOn") (hG : GK A D ac K s) (hRM : RM K s (rmC 5 85 K h0)) {x : HS × Int32} {k5 : HS → Int32 → Int32 → Int32 → Int32 → Option (HS × Int32)} (hk5 : ∀ h a1 a2 a3 a4, k5 h a1 a2 a3 a4 = some x → cGo p l e (rmC 5 85 K h0) s m args below meth c A D ac K (MQ below (cQi A D ac K x) args s (K.2.2.1 - h0.2.1) (K.2.2.2 - h0.2.2) A) 5 5 [(0, va_rf (some a0)), (1, .int a1), (2, .int a2), (3, .int a3), (4, .int a4)] [] h) : ∀ (h : HS) (a1 : Int32) (a2 : Int32) (a4 : Int32), fX0_profileOn_62 K a0 k5 h a1 a2 a4 = some x → cGo p l e (rmC 5 85 K h0) s m args below meth c A D ac K (MQ below (cQi A D ac K x) args s (K.2.2.1 - h0.2.1) (K.2.2.2 - h0.2.2) A) 5 62 [(0, va_rf (some a0)), (1, .int a1), (2, .int a2), (4, .int a4)] [] h := by
  obtain ⟨hx, hb, hml, hown, hts⟩ := id S
  intro h a1 a2 a4 z H locs hH hS ls hl
  unfold fX0_profileOn_62 at z
  refine lv_iconst (v := (0 : Int32)) hx hb dX0_profileOn_62 (by decide) ?_
  exact wX0_profileOn_63 S hr hlk hnm hG hRM hk5 h a1 a2 a4 (0 : Int32) z _ _ hH hS _ (lv_sub hl [0, 1, 2, 3] rfl)
set_option maxHeartbeats 4000000 in
theorem wX0_profileOn_142 {p : Program} {l : Launch} {e : Env} {s : State} {m : MethodId} {args : Array Value} {below : List Frame} {meth : Method} {c : Code} {A : Nat → Prop} {D : va_G} {ac : Nat → ClassId} {K : KE} {h0 : HS} {a0 : Nat} (S : CallFix p m c cX0_profileOn 5 s args lw_all RX0) (hr : meth.sig.returnType = some .boolean) (hlk : meth.locks = false) (hnm : meth.name = "profileOn") (hG : GK A D ac K s) (hRM : RM K s (rmC 5 85 K h0)) {x : HS × Int32} {k73 : HS → Int32 → Int32 → Int32 → Int32 → Option (HS × Int32)} (hk73 : ∀ h a1 a2 a3 a4, k73 h a1 a2 a3 a4 = some x → cGo p l e (rmC 5 85 K h0) s m args below meth c A D ac K (MQ below (cQi A D ac K x) args s (K.2.2.1 - h0.2.1) (K.2.2.2 - h0.2.2) A) 5 73 [(0, va_rf (some a0)), (1, .int a1), (2, .int a2), (3, .int a3), (4, .int a4)] [] h) : ∀ (h : HS) (a1 : Int32) (a2 : Int32) (a4 : Int32) (t0 : Int32), fX0_profileOn_142 K a0 k73 h a1 a2 a4 t0 = some x → cGo p l e (rmC 5 85 K h0) s m args below meth c A D ac K (MQ below (cQi A D ac K x) args s (K.2.2.1 - h0.2.1) (K.2.2.2 - h0.2.2) A) 5 142 [(0, va_rf (some a0)), (1, .int a1), (2, .int a2), (4, .int a4)] [.int t0] h := by
  obtain ⟨hx, hb, hml, hown, hts⟩ := id S
  intro h a1 a2 a4 t0 z H locs hH hS ls hl
  unfold fX0_profileOn_142 at z
  refine lv_istore_n (lv' := [(3, .int t0), (0, va_rf (some a0)), (1, .int a1), (2, .int a2), (4, .int a4)]) hx hb dX0_profileOn_142 rfl hl (by decide) rfl (fun ls hl => ?_)
  refine lv_iinc (v := (a4 + (1 : Int32))) (lv' := [(4, .int (a4 + (1 : Int32))), (3, .int t0), (0, va_rf (some a0)), (1, .int a1), (2, .int a2)]) hx hb dX0_profileOn_143 hl (k := 4) rfl rfl (by decide) rfl (fun ls hl => ?_)
  refine lv_goto (tgt := 73) hx hb dX0_profileOn_146 (by decide) ?_
  exact hk73 h a1 a2 t0 (a4 + (1 : Int32)) z _ _ hH hS _ (lv_sub hl [2, 3, 4, 1, 0] rfl)
set_option maxHeartbeats 4000000 in
theorem wX0_profileOn_141 {p : Program} {l : Launch} {e : Env} {s : State} {m : MethodId} {args : Array Value} {below : List Frame} {meth : Method} {c : Code} {A : Nat → Prop} {D : va_G} {ac : Nat → ClassId} {K : KE} {h0 : HS} {a0 : Nat} (S : CallFix p m c cX0_profileOn 5 s args lw_all RX0) (hr : meth.sig.returnType = some .boolean) (hlk : meth.locks = false) (hnm : meth.name = "profileOn") (hG : GK A D ac K s) (hRM : RM K s (rmC 5 85 K h0)) {x : HS × Int32} {k73 : HS → Int32 → Int32 → Int32 → Int32 → Option (HS × Int32)} (hk73 : ∀ h a1 a2 a3 a4, k73 h a1 a2 a3 a4 = some x → cGo p l e (rmC 5 85 K h0) s m args below meth c A D ac K (MQ below (cQi A D ac K x) args s (K.2.2.1 - h0.2.1) (K.2.2.2 - h0.2.2) A) 5 73 [(0, va_rf (some a0)), (1, .int a1), (2, .int a2), (3, .int a3), (4, .int a4)] [] h) : ∀ (h : HS) (a1 : Int32) (a2 : Int32) (a4 : Int32), fX0_profileOn_141 K a0 k73 h a1 a2 a4 = some x → cGo p l e (rmC 5 85 K h0) s m args below meth c A D ac K (MQ below (cQi A D ac K x) args s (K.2.2.1 - h0.2.1) (K.2.2.2 - h0.2.2) A) 5 141 [(0, va_rf (some a0)), (1, .int a1), (2, .int a2), (4, .int a4)] [] h := by
  obtain ⟨hx, hb, hml, hown, hts⟩ := id S
  intro h a1 a2 a4 z H locs hH hS ls hl
  unfold fX0_profileOn_141 at z
  refine lv_iconst (v := (0 : Int32)) hx hb dX0_profileOn_141 (by decide) ?_
  exact wX0_profileOn_142 S hr hlk hnm hG hRM hk73 h a1 a2 a4 (0 : Int32) z _ _ hH hS _ (lv_sub hl [0, 1, 2, 3] rfl)
set_option maxHeartbeats 4000000 in
theorem wX0_profileOn_73 {p : Program} {l : Launch} {e : Env} {s : State} {m : MethodId} {args : Array Value} {below : List Frame} {meth : Method} {c : Code} {A : Nat → Prop} {D : va_G} {ac : Nat → ClassId} {K : KE} {h0 : HS} {a0 : Nat} (S : CallFix p m c cX0_profileOn 5 s args lw_all RX0) (hr : meth.sig.returnType = some .boolean) (hlk : meth.locks = false) (hnm : meth.name = "profileOn") (hG : GK A D ac K s) (hRM : RM K s (rmC 5 85 K h0)) {x : HS × Int32} : ∀ (n : Nat) (h : HS) (a1 : Int32) (a2 : Int32) (a3 : Int32) (a4 : Int32), fX0_profileOn_73 K a0 n h a1 a2 a3 a4 = some x → cGo p l e (rmC 5 85 K h0) s m args below meth c A D ac K (MQ below (cQi A D ac K x) args s (K.2.2.1 - h0.2.1) (K.2.2.2 - h0.2.2) A) 5 73 [(0, va_rf (some a0)), (1, .int a1), (2, .int a2), (3, .int a3), (4, .int a4)] [] h := by
  obtain ⟨hx, hb, hml, hown, hts⟩ := id S
  intro n
  induction n with
  | zero => intro h a1 a2 a3 a4 z; cases z
  | succ n ih =>
    intro h a1 a2 a3 a4 z H locs hH hS ls hl
    rw [fX0_profileOn_73] at z
    refine lv_iload hx hb dX0_profileOn_73 (lv_at hl 4 rfl) ?_
    refine c_aload_n hx hb dX0_profileOn_75 rfl (lv_at hl 0 rfl) ?_
    replace z := ob z
    obtain ⟨b1, zb1, z⟩ := z
    obtain ⟨yb1, zb1⟩ := rcv_e zb1
    replace z := ob z
    obtain ⟨x2, zx2, z⟩ := z
    refine c_calli hH hS hRM (fun _ _ f1 f2 => va_runV (b := b1) (As := []) (rest := [.int a4]) S (metX0_films zx2) (cwV 0 hts (lw_V q1274 q1276 qs36 q167 q1277) rfl rfl rfl (by decide +kernel) ⟨(Nat.le_of_ble_eq_true rfl), (Nat.le_of_ble_eq_true rfl)⟩) (c_preV hG hH hS (ci := 0) rfl zb1) rfl rfl hl.1 (by rw [yb1]; rfl) (lv_room (Nat.le_of_ble_eq_true rfl)) dX0_profileOn_76 ⟨f1, f2⟩) (fun H locs hH hS => ?_)
    refine lv_icmp_ge (tgt := 149) hx hb dX0_profileOn_79 (by decide) (fun c3 => ?_) (fun c3 => ?_)
    · replace z := it c3 z
      refine lv_iload_n hx hb dX0_profileOn_149 rfl (lv_at hl 3 rfl) ?_
      replace z := ob z
      obtain ⟨g4, zg4, z⟩ := z
      obtain ⟨yg4, -⟩ := zr_e zg4
      exact c_iret S hr hlk yg4 hH hS z dX0_profileOn_150
    replace z := ie c3 z
    refine c_aload_n hx hb dX0_profileOn_82 rfl (lv_at hl 0 rfl) ?_
    replace z := ob z
    obtain ⟨v5, zv5, z⟩ := z
    obtain ⟨fsv5, yv5, zv5⟩ := gR_e zv5
    refine c_get S hG hH (ci := 0) (k := 10) rfl in_X0 (Nat.le_of_ble_eq_true rfl) q490 (fun _ y => y) yv5 zv5 dX0_profileOn_83 ?_
    replace z := ob z
    obtain ⟨v6, zv6, z⟩ := z
    obtain ⟨fsv6, yv6, zv6⟩ := gR_e zv6
    refine c_getN S hG hH (ci := 5) (k := 4) rfl in_X5 (Nat.le_of_ble_eq_true rfl) q438 (fun _ y => y) yv6 zv6 dX0_profileOn_86 ?_
    refine lv_iload_n hx hb dX0_profileOn_89 rfl (lv_at hl 1 rfl) ?_
    replace z := ob z
    obtain ⟨v7, zv7, z⟩ := z
    refine c_aald S hG hH 8 rfl rfl zv7 dX0_profileOn_90 ?_
    refine lv_iload hx hb dX0_profileOn_91 (lv_at hl 4 rfl) ?_
    refine c_aload_n hx hb dX0_profileOn_93 rfl (lv_at hl 0 rfl) ?_
    refine lv_iload_n hx hb dX0_profileOn_94 rfl (lv_at hl 2 rfl) ?_
    refine lv_iconst (v := (2 : Int32)) hx hb dX0_profileOn_95 (by decide) ?_
    refine c_aload_n hx hb dX0_profileOn_96 rfl (lv_at hl 0 rfl) ?_
    replace z := ob z
    obtain ⟨b8, zb8, z⟩ := z
    obtain ⟨yb8, zb8⟩ := rcv_e zb8
    replace z := ob z
    obtain ⟨x9, zx9, z⟩ := z
    refine c_calli hH hS hRM (fun _ _ f1 f2 => va_runV (b := b8) (As := []) (rest := [.int (2 : Int32), .int a2, va_rf (some a0), .int a4, va_rf v7]) S (metX0_kinds zx9) (cwV 0 hts (lw_V q1268 q1270 qs35 q167 q1271) rfl rfl rfl (by decide +kernel) ⟨(Nat.le_of_ble_eq_true rfl), (Nat.le_of_ble_eq_true rfl)⟩) (c_preV hG hH hS (ci := 0) rfl zb8) rfl rfl hl.1 (by rw [yb8]; rfl) (lv_room (by simp [ct_r, ct_i, ct_l])) dX0_profileOn_97 ⟨f1, f2⟩) (fun H locs hH hS => ?_)
    refine lv_imul hx hb dX0_profileOn_100 ?_
    refine lv_iadd hx hb dX0_profileOn_101 ?_
    refine lv_iload hx hb dX0_profileOn_102 (lv_at hl 4 rfl) ?_
    refine lv_iadd hx hb dX0_profileOn_104 ?_
    replace z := ob z
    obtain ⟨b10, zb10, z⟩ := z
    obtain ⟨yb10, zb10⟩ := rcv_e zb10
    replace z := ob z
    obtain ⟨x11, zx11, z⟩ := z
    refine c_calli hH hS hRM (fun _ _ f1 f2 => va_runV (b := b10) (As := [.int ((a2 + ((2 : Int32) * x9)) + a4)]) (rest := [.int a4, va_rf v7]) S (metX0_byteAt zx11) (cwV 1 hts (lw_V q1588 q1590 qs56 q167 q1591) rfl rfl rfl (by decide +kernel) ⟨(Nat.le_of_ble_eq_true rfl), (Nat.le_of_ble_eq_true rfl)⟩) (c_preV hG hH hS (ci := 0) rfl zb10) rfl rfl hl.1 (by rw [yb10]; rfl) (lv_room (by simp [ct_r, ct_i, ct_l])) dX0_profileOn_105 ⟨f1, f2⟩) (fun H locs hH hS => ?_)
    replace z := ob z
    obtain ⟨h12, zh12, z⟩ := z
    refine c_iast S hG hH hS zh12 dX0_profileOn_108 (fun H locs hH hS => ?_)
    refine lv_iload_n hx hb dX0_profileOn_109 rfl (lv_at hl 3 rfl) ?_
    refine lv_if_eq (tgt := 141) hx hb dX0_profileOn_110 (by decide) (fun c13 => ?_) (fun c13 => ?_)
    · replace z := it c13 z
      exact wX0_profileOn_141 S hr hlk hnm hG hRM ih h12 a1 a2 a4 z _ _ hH hS _ (lv_sub hl [0, 1, 2, 4] rfl)
    replace z := ie c13 z
    refine c_aload_n hx hb dX0_profileOn_113 rfl (lv_at hl 0 rfl) ?_
    replace z := ob z
    obtain ⟨v14, zv14, z⟩ := z
    obtain ⟨fsv14, yv14, zv14⟩ := gR_e zv14
    refine c_get S hG hH (ci := 0) (k := 10) rfl in_X0 (Nat.le_of_ble_eq_true rfl) q490 (fun _ y => y) yv14 zv14 dX0_profileOn_114 ?_
    replace z := ob z
    obtain ⟨v15, zv15, z⟩ := z
    obtain ⟨fsv15, yv15, zv15⟩ := gR_e zv15
    refine c_getN S hG hH (ci := 5) (k := 4) rfl in_X5 (Nat.le_of_ble_eq_true rfl) q438 (fun _ y => y) yv15 zv15 dX0_profileOn_117 ?_
    refine lv_iload_n hx hb dX0_profileOn_120 rfl (lv_at hl 1 rfl) ?_
    replace z := ob z
    obtain ⟨v16, zv16, z⟩ := z
    refine c_aald S hG hH 8 rfl rfl zv16 dX0_profileOn_121 ?_
    refine lv_iload hx hb dX0_profileOn_122 (lv_at hl 4 rfl) ?_
    replace z := ob z
    obtain ⟨v17, zv17, z⟩ := z
    refine c_iald S hG hH zv17 dX0_profileOn_124 ?_
    refine c_aload_n hx hb dX0_profileOn_125 rfl (lv_at hl 0 rfl) ?_
    refine lv_iload hx hb dX0_profileOn_126 (lv_at hl 4 rfl) ?_
    replace z := ob z
    obtain ⟨b18, zb18, z⟩ := z
    obtain ⟨yb18, zb18⟩ := rcv_e zb18
    replace z := ob z
    obtain ⟨x19, zx19, z⟩ := z
    refine c_callq hH hS hRM (fun _ _ f1 f2 => va_runV (b := b18) (As := [.int a4]) (rest := [.int v17]) S (metX0_filmOf zx19) (cwV 1 hts (lw_V q1327 q1329 qs40 q167 q1330) rfl rfl rfl (by decide +kernel) ⟨(Nat.le_of_ble_eq_true rfl), (Nat.le_of_ble_eq_true rfl)⟩) (c_preV hG hH hS (ci := 0) rfl zb18) rfl rfl hl.1 (by rw [yb18]; rfl) (lv_room (Nat.le_of_ble_eq_true rfl)) dX0_profileOn_128 ⟨f1, f2⟩) (fun H locs hH hS => ?_)
    replace z := ob z
    obtain ⟨v20, zv20, z⟩ := z
    obtain ⟨fsv20, yv20, zv20⟩ := gI_e zv20
    refine c_getN S hG hH (ci := 7) (k := 1) rfl in_X8 (Nat.le_of_ble_eq_true rfl) q932 (fun _ y => y) yv20 zv20 dX0_profileOn_131 ?_
    refine lv_icmp_gt (tgt := 141) hx hb dX0_profileOn_134 (by decide) (fun c21 => ?_) (fun c21 => ?_)
    · replace z := it c21 z
      exact wX0_profileOn_141 S hr hlk hnm hG hRM ih h12 a1 a2 a4 z _ _ hH hS _ (lv_sub hl [0, 1, 2, 4] rfl)
    replace z := ie c21 z
    refine lv_iconst (v := (1 : Int32)) hx hb dX0_profileOn_137 (by decide) ?_
    refine lv_goto (tgt := 142) hx hb dX0_profileOn_138 (by decide) ?_
    exact wX0_profileOn_142 S hr hlk hnm hG hRM ih h12 a1 a2 a4 (1 : Int32) z _ _ hH hS _ (lv_sub hl [0, 1, 2, 4] rfl)
set_option maxHeartbeats 4000000 in
theorem wX0_profileOn_5 {p : Program} {l : Launch} {e : Env} {s : State} {m : MethodId} {args : Array Value} {below : List Frame} {meth : Method} {c : Code} {A : Nat → Prop} {D : va_G} {ac : Nat → ClassId} {K : KE} {h0 : HS} {a0 : Nat} (S : CallFix p m c cX0_profileOn 5 s args lw_all RX0) (hr : meth.sig.returnType = some .boolean) (hlk : meth.locks = false) (hnm : meth.name = "profileOn") (hG : GK A D ac K s) (hRM : RM K s (rmC 5 85 K h0)) {x : HS × Int32} : ∀ (n : Nat) (h : HS) (a1 : Int32) (a2 : Int32) (a3 : Int32) (a4 : Int32), fX0_profileOn_5 K a0 n h a1 a2 a3 a4 = some x → cGo p l e (rmC 5 85 K h0) s m args below meth c A D ac K (MQ below (cQi A D ac K x) args s (K.2.2.1 - h0.2.1) (K.2.2.2 - h0.2.2) A) 5 5 [(0, va_rf (some a0)), (1, .int a1), (2, .int a2), (3, .int a3), (4, .int a4)] [] h := by
  obtain ⟨hx, hb, hml, hown, hts⟩ := id S
  intro n
  induction n with
  | zero => intro h a1 a2 a3 a4 z; cases z
  | succ n ih =>
    intro h a1 a2 a3 a4 z H locs hH hS ls hl
    rw [fX0_profileOn_5] at z
    refine lv_iload hx hb dX0_profileOn_5 (lv_at hl 4 rfl) ?_
    refine c_aload_n hx hb dX0_profileOn_7 rfl (lv_at hl 0 rfl) ?_
    replace z := ob z
    obtain ⟨b1, zb1, z⟩ := z
    obtain ⟨yb1, zb1⟩ := rcv_e zb1
    replace z := ob z
    obtain ⟨x2, zx2, z⟩ := z
    refine c_calli hH hS hRM (fun _ _ f1 f2 => va_runV (b := b1) (As := []) (rest := [.int a4]) S (metX0_kinds zx2) (cwV 0 hts (lw_V q1268 q1270 qs35 q167 q1271) rfl rfl rfl (by decide +kernel) ⟨(Nat.le_of_ble_eq_true rfl), (Nat.le_of_ble_eq_true rfl)⟩) (c_preV hG hH hS (ci := 0) rfl zb1) rfl rfl hl.1 (by rw [yb1]; rfl) (lv_room (Nat.le_of_ble_eq_true rfl)) dX0_profileOn_8 ⟨f1, f2⟩) (fun H locs hH hS => ?_)
    refine lv_icmp_ge (tgt := 70) hx hb dX0_profileOn_11 (by decide) (fun c3 => ?_) (fun c3 => ?_)
    · replace z := it c3 z
      refine lv_iconst (v := (0 : Int32)) hx hb dX0_profileOn_70 (by decide) ?_
      refine lv_istore (lv' := [(4, .int (0 : Int32)), (0, va_rf (some a0)), (1, .int a1), (2, .int a2), (3, .int a3)]) hx hb dX0_profileOn_71 hl (by decide) rfl (fun ls hl => ?_)
      exact wX0_profileOn_73 S hr hlk hnm hG hRM FU h a1 a2 a3 (0 : Int32) z _ _ hH hS _ (lv_sub hl [1, 2, 3, 4, 0] rfl)
    replace z := ie c3 z
    refine c_aload_n hx hb dX0_profileOn_14 rfl (lv_at hl 0 rfl) ?_
    replace z := ob z
    obtain ⟨v4, zv4, z⟩ := z
    obtain ⟨fsv4, yv4, zv4⟩ := gR_e zv4
    refine c_get S hG hH (ci := 0) (k := 10) rfl in_X0 (Nat.le_of_ble_eq_true rfl) q490 (fun _ y => y) yv4 zv4 dX0_profileOn_15 ?_
    replace z := ob z
    obtain ⟨v5, zv5, z⟩ := z
    obtain ⟨fsv5, yv5, zv5⟩ := gR_e zv5
    refine c_getN S hG hH (ci := 5) (k := 3) rfl in_X5 (Nat.le_of_ble_eq_true rfl) q436 (fun _ y => y) yv5 zv5 dX0_profileOn_18 ?_
    refine lv_iload_n hx hb dX0_profileOn_21 rfl (lv_at hl 1 rfl) ?_
    replace z := ob z
    obtain ⟨v6, zv6, z⟩ := z
    refine c_aald S hG hH 8 rfl rfl zv6 dX0_profileOn_22 ?_
    refine lv_iload hx hb dX0_profileOn_23 (lv_at hl 4 rfl) ?_
    refine c_aload_n hx hb dX0_profileOn_25 rfl (lv_at hl 0 rfl) ?_
    refine lv_iload_n hx hb dX0_profileOn_26 rfl (lv_at hl 2 rfl) ?_
    refine lv_iconst (v := (2 : Int32)) hx hb dX0_profileOn_27 (by decide) ?_
    refine lv_iload hx hb dX0_profileOn_28 (lv_at hl 4 rfl) ?_
    refine lv_imul hx hb dX0_profileOn_30 ?_
    refine lv_iadd hx hb dX0_profileOn_31 ?_
    replace z := ob z
    obtain ⟨b7, zb7, z⟩ := z
    obtain ⟨yb7, zb7⟩ := rcv_e zb7
    replace z := ob z
    obtain ⟨x8, zx8, z⟩ := z
    refine c_calli hH hS hRM (fun _ _ f1 f2 => va_runV (b := b7) (As := [.int (a2 + ((2 : Int32) * a4))]) (rest := [.int a4, va_rf v6]) S (metX0_twoAt zx8) (cwV 1 hts (lw_V q1710 q1712 qs62 q167 q1713) rfl rfl rfl (by decide +kernel) ⟨(Nat.le_of_ble_eq_true rfl), (Nat.le_of_ble_eq_true rfl)⟩) (c_preV hG hH hS (ci := 0) rfl zb7) rfl rfl hl.1 (by rw [yb7]; rfl) (lv_room (by simp [ct_r, ct_i, ct_l])) dX0_profileOn_32 ⟨f1, f2⟩) (fun H locs hH hS => ?_)
    replace z := ob z
    obtain ⟨h9, zh9, z⟩ := z
    refine c_iast S hG hH hS zh9 dX0_profileOn_35 (fun H locs hH hS => ?_)
    refine lv_iload_n hx hb dX0_profileOn_36 rfl (lv_at hl 3 rfl) ?_
    refine lv_if_eq (tgt := 62) hx hb dX0_profileOn_37 (by decide) (fun c10 => ?_) (fun c10 => ?_)
    · replace z := it c10 z
      exact wX0_profileOn_62 S hr hlk hnm hG hRM ih h9 a1 a2 a4 z _ _ hH hS _ (lv_sub hl [0, 1, 2, 4] rfl)
    replace z := ie c10 z
    refine c_aload_n hx hb dX0_profileOn_40 rfl (lv_at hl 0 rfl) ?_
    replace z := ob z
    obtain ⟨v11, zv11, z⟩ := z
    obtain ⟨fsv11, yv11, zv11⟩ := gR_e zv11
    refine c_get S hG hH (ci := 0) (k := 10) rfl in_X0 (Nat.le_of_ble_eq_true rfl) q490 (fun _ y => y) yv11 zv11 dX0_profileOn_41 ?_
    replace z := ob z
    obtain ⟨v12, zv12, z⟩ := z
    obtain ⟨fsv12, yv12, zv12⟩ := gR_e zv12
    refine c_getN S hG hH (ci := 5) (k := 3) rfl in_X5 (Nat.le_of_ble_eq_true rfl) q436 (fun _ y => y) yv12 zv12 dX0_profileOn_44 ?_
    refine lv_iload_n hx hb dX0_profileOn_47 rfl (lv_at hl 1 rfl) ?_
    replace z := ob z
    obtain ⟨v13, zv13, z⟩ := z
    refine c_aald S hG hH 8 rfl rfl zv13 dX0_profileOn_48 ?_
    refine lv_iload hx hb dX0_profileOn_49 (lv_at hl 4 rfl) ?_
    replace z := ob z
    obtain ⟨v14, zv14, z⟩ := z
    refine c_iald S hG hH zv14 dX0_profileOn_51 ?_
    refine lv_sipush (v := (999 : Int32)) hx hb dX0_profileOn_52 (by decide) ?_
    refine lv_icmp_gt (tgt := 62) hx hb dX0_profileOn_55 (by decide) (fun c15 => ?_) (fun c15 => ?_)
    · replace z := it c15 z
      exact wX0_profileOn_62 S hr hlk hnm hG hRM ih h9 a1 a2 a4 z _ _ hH hS _ (lv_sub hl [0, 1, 2, 4] rfl)
    replace z := ie c15 z
    refine lv_iconst (v := (1 : Int32)) hx hb dX0_profileOn_58 (by decide) ?_
    refine lv_goto (tgt := 63) hx hb dX0_profileOn_59 (by decide) ?_
    exact wX0_profileOn_63 S hr hlk hnm hG hRM ih h9 a1 a2 a4 (1 : Int32) z _ _ hH hS _ (lv_sub hl [0, 1, 2, 4] rfl)
set_option maxHeartbeats 4000000 in
theorem metX0_profileOn {l : Launch} {A : Nat → Prop} {D : va_G} {ac : Nat → ClassId} {K : KE} {h : HS} {a0 : Nat} {a1 : Int32} {a2 : Int32} {x : HS × Int32} (z : fX0_profileOn K h a0 a1 a2 = some x) : Met l yX0_profileOn (ws_ yX0_profileOn cX0_profileOn 5 (some .boolean)) (rmC 5 85 K h) (cP A D ac K h [va_rf (some a0), .int a1, .int a2]) (cQi A D ac K x) (K.2.2.1 - h.2.1) (K.2.2.2 - h.2.2) A := by
  refine c_entry (plainFor_of_name (by decide)) (Nat.le_of_ble_eq_true rfl) ?_
  intro p e s m below meth c S hr hlk hnm hG hRM hH hS ls hl
  replace hl : lv_has ls 5 [(0, va_rf (some a0)), (1, .int a1), (2, .int a2)] := hl
  replace hnm : meth.name = "profileOn" := hnm
  replace S : CallFix p m c cX0_profileOn 5 s _ lw_all RX0 := S
  obtain ⟨hx, hb, hml, hown, hts⟩ := id S
  unfold fX0_profileOn at z
  refine lv_iconst (v := (1 : Int32)) hx hb dX0_profileOn_0 (by decide) ?_
  refine lv_istore_n (lv' := [(3, .int (1 : Int32)), (0, va_rf (some a0)), (1, .int a1), (2, .int a2)]) hx hb dX0_profileOn_1 rfl hl (by decide) rfl (fun ls hl => ?_)
  refine lv_iconst (v := (0 : Int32)) hx hb dX0_profileOn_2 (by decide) ?_
  refine lv_istore (lv' := [(4, .int (0 : Int32)), (3, .int (1 : Int32)), (0, va_rf (some a0)), (1, .int a1), (2, .int a2)]) hx hb dX0_profileOn_3 hl (by decide) rfl (fun ls hl => ?_)
  exact wX0_profileOn_5 S hr hlk hnm hG hRM FU h a1 a2 (1 : Int32) (0 : Int32) z _ _ hH hS _ (lv_sub hl [2, 3, 4, 1, 0] rfl)
/-! FourOnOne.on()Z -/
def fX0_on_179 (K : KE) (a0 : Nat) (h : HS) (a4 : Int32) : Option (HS × Int32) :=
  if a4 = 0 then
    (rcv K h (some a0) 0).bind fun b15 =>
    (fX0_refuses K h b15 (5 : Int32)).bind fun x16 =>
    if x16.2 < 0 then
      some (x16.1, (0 : Int32))
    else
    some (x16.1, (1 : Int32))
  else
  (gR K h (some a0) 0 10).bind fun v2 =>
  (rcv K h (some a0) 0).bind fun b3 =>
  (fX0_twoAt K h b3 (0 : Int32)).bind fun x4 =>
  (rcv K h (some a0) 0).bind fun b5 =>
  (fX0_byteAt K h b5 (2 : Int32)).bind fun x6 =>
  (pV h v2 5 0 (.int (((24 : Int32) * x4) + x6))).bind fun h7 =>
  (gR K h7 (some a0) 0 10).bind fun v8 =>
  (pV h7 v8 5 2 (.int (0 : Int32))).bind fun h9 =>
  (gR K h9 (some a0) 0 9).bind fun v10 =>
  (gR K h9 (some a0) 0 10).bind fun v11 =>
  (rcv K h9 v10 5).bind fun b12 =>
  (fX5_copy K h9 b12 v11).bind fun x13 =>
  (pV x13.1 (some a0) 0 17 (.int (0 : Int32))).bind fun h14 =>
  some (h14, (1 : Int32))
def fX0_on_145 (K : KE) (a0 : Nat) : Nat → HS → Int32 → Int32 → Int32 → Option (HS × Int32)
  | 0, _, _, _, _ => none
  | n + 1, h, a3, a4, a5 =>
    (rcv K h (some a0) 0).bind fun b1 =>
    (fX0_people K h b1).bind fun x2 =>
    if x2 ≤ a5 then
      fX0_on_179 K a0 h a4
    else
    if a4 = 0 then
      fX0_on_179 K a0 h a4
    else
    (rcv K h (some a0) 0).bind fun b5 =>
    (fX0_personOn K h b5 a5 (a3 + ((3 : Int32) * a5))).bind fun x6 =>
    fX0_on_145 K a0 n x6.1 a3 x6.2 (a5 + (1 : Int32))
def fX0_on_142 (K : KE) (a0 : Nat) (h : HS) (a3 : Int32) (a4 : Int32) : Option (HS × Int32) :=
  fX0_on_145 K a0 FU h a3 a4 (0 : Int32)
def fX0_on_108 (K : KE) (a0 : Nat) : Nat → HS → Int32 → Int32 → Int32 → Int32 → Option (HS × Int32)
  | 0, _, _, _, _, _ => none
  | n + 1, h, a2, a3, a4, a5 =>
    (rcv K h (some a0) 0).bind fun b1 =>
    (fX0_people K h b1).bind fun x2 =>
    if x2 < a5 then
      fX0_on_142 K a0 h a3 a4
    else
    if a4 = 0 then
      fX0_on_142 K a0 h a3 a4
    else
    (rcv K h (some a0) 0).bind fun b5 =>
    (fX0_profileOn K h b5 a5 ((3 : Int32) + (a2 * a5))).bind fun x6 =>
    fX0_on_108 K a0 n x6.1 a2 a3 x6.2 (a5 + (1 : Int32))
def fX0_on_88 (K : KE) (a0 : Nat) (h : HS) (a2 : Int32) (a3 : Int32) (t0 : Int32) : Option (HS × Int32) :=
  (gR K h (some a0) 0 10).bind fun v1 =>
  (gR K h (some a0) 0 9).bind fun v2 =>
  (rcv K h v1 5).bind fun b3 =>
  (fX5_copy K h b3 v2).bind fun x4 =>
  (pV x4.1 x4.2 5 1 (.int (0 : Int32))).bind fun h5 =>
  fX0_on_108 K a0 FU h5 a2 a3 t0 (0 : Int32)
def fX0_on_87 (K : KE) (a0 : Nat) (h : HS) (a2 : Int32) (a3 : Int32) : Option (HS × Int32) :=
  fX0_on_88 K a0 h a2 a3 (0 : Int32)
def fX0_on (K : KE) (h : HS) (a0 : Nat) : Option (HS × Int32) :=
  (rcv K h (some a0) 0).bind fun b1 =>
  (fX0_taken K h b1).bind fun x2 =>
  (rcv K x2.1 (some a0) 0).bind fun b3 =>
  (fX0_kinds K x2.1 b3).bind fun x4 =>
  (rcv K x2.1 (some a0) 0).bind fun b5 =>
  (fX0_films K x2.1 b5).bind fun x6 =>
  (rcv K x2.1 (some a0) 0).bind fun b7 =>
  (fX0_people K x2.1 b7).bind fun x8 =>
  (rcv K x2.1 (some a0) 0).bind fun b9 =>
  (fX0_people K x2.1 b9).bind fun x10 =>
  if x2.2 = ((((3 : Int32) + ((((2 : Int32) * x4) + x6) * (x8 + (1 : Int32)))) + ((3 : Int32) * x10)) + (1 : Int32)) then
    (rcv K x2.1 (some a0) 0).bind fun b12 =>
    (fX0_byteAt K x2.1 b12 (x2.2 - (1 : Int32))).bind fun x13 =>
    (gR K x2.1 (some a0) 0 1).bind fun v14 =>
    (fX0_check K x2.1 v14 (x2.2 - (1 : Int32))).bind fun x15 =>
    if x13 = x15 then
      (rcv K x2.1 (some a0) 0).bind fun b17 =>
      (fX0_twoAt K x2.1 b17 (0 : Int32)).bind fun x18 =>
      if (999 : Int32) < x18 then
        fX0_on_87 K a0 x2.1 (((2 : Int32) * x4) + x6) ((3 : Int32) + ((((2 : Int32) * x4) + x6) * (x8 + (1 : Int32))))
      else
      (rcv K x2.1 (some a0) 0).bind fun b20 =>
      (fX0_byteAt K x2.1 b20 (2 : Int32)).bind fun x21 =>
      if (24 : Int32) ≤ x21 then
        fX0_on_87 K a0 x2.1 (((2 : Int32) * x4) + x6) ((3 : Int32) + ((((2 : Int32) * x4) + x6) * (x8 + (1 : Int32))))
      else
      fX0_on_88 K a0 x2.1 (((2 : Int32) * x4) + x6) ((3 : Int32) + ((((2 : Int32) * x4) + x6) * (x8 + (1 : Int32)))) (1 : Int32)
    else
    fX0_on_87 K a0 x2.1 (((2 : Int32) * x4) + x6) ((3 : Int32) + ((((2 : Int32) * x4) + x6) * (x8 + (1 : Int32))))
  else
  fX0_on_87 K a0 x2.1 (((2 : Int32) * x4) + x6) ((3 : Int32) + ((((2 : Int32) * x4) + x6) * (x8 + (1 : Int32))))
set_option maxHeartbeats 4000000 in
theorem wX0_on_179 {p : Program} {l : Launch} {e : Env} {s : State} {m : MethodId} {args : Array Value} {below : List Frame} {meth : Method} {c : Code} {A : Nat → Prop} {D : va_G} {ac : Nat → ClassId} {K : KE} {h0 : HS} {a0 : Nat} (S : CallFix p m c cX0_on 6 s args lw_all RX0) (hr : meth.sig.returnType = some .boolean) (hlk : meth.locks = false) (hnm : meth.name = "on") (hG : GK A D ac K s) (hRM : RM K s (rmC 6 109 K h0)) {x : HS × Int32} : ∀ (h : HS) (a4 : Int32), fX0_on_179 K a0 h a4 = some x → cGo p l e (rmC 6 109 K h0) s m args below meth c A D ac K (MQ below (cQi A D ac K x) args s (K.2.2.1 - h0.2.1) (K.2.2.2 - h0.2.2) A) 6 179 [(0, va_rf (some a0)), (4, .int a4)] [] h := by
  obtain ⟨hx, hb, hml, hown, hts⟩ := id S
  intro h a4 z H locs hH hS ls hl
  unfold fX0_on_179 at z
  refine lv_iload hx hb dX0_on_179 (lv_at hl 1 rfl) ?_
  refine lv_if_ne (tgt := 198) hx hb dX0_on_181 (by decide) (fun c1 => ?_) (fun c1 => ?_)
  rotate_left 1
  · replace z := it c1 z
    refine c_aload_n hx hb dX0_on_184 rfl (lv_at hl 0 rfl) ?_
    refine lv_iconst (v := (5 : Int32)) hx hb dX0_on_185 (by decide) ?_
    replace z := ob z
    obtain ⟨b15, zb15, z⟩ := z
    obtain ⟨yb15, zb15⟩ := rcv_e zb15
    replace z := ob z
    obtain ⟨x16, zx16, z⟩ := z
    refine c_calli hH hS hRM (fun _ _ f1 f2 => va_runV (b := b15) (As := [.int (5 : Int32)]) (rest := []) S (metX0_refuses zx16) (cwV 1 hts (lw_V q552 q554 qs1 q167 q555) rfl rfl rfl (by decide +kernel) ⟨(Nat.le_of_ble_eq_true rfl), (Nat.le_of_ble_eq_true rfl)⟩) (c_preV hG hH hS (ci := 0) rfl zb15) rfl rfl hl.1 (by rw [yb15]; rfl) (lv_room (Nat.le_of_ble_eq_true rfl)) dX0_on_186 ⟨f1, f2⟩) (fun H locs hH hS => ?_)
    refine lv_if_lt (tgt := 196) hx hb dX0_on_189 (by decide) (fun c17 => ?_) (fun c17 => ?_)
    · replace z := it c17 z
      refine lv_iconst (v := (0 : Int32)) hx hb dX0_on_196 (by decide) ?_
      exact c_iret S hr hlk rfl hH hS z dX0_on_197
    replace z := ie c17 z
    refine lv_iconst (v := (1 : Int32)) hx hb dX0_on_192 (by decide) ?_
    refine lv_goto (tgt := 197) hx hb dX0_on_193 (by decide) ?_
    exact c_iret S hr hlk rfl hH hS z dX0_on_197
  replace z := ie c1 z
  refine c_aload_n hx hb dX0_on_198 rfl (lv_at hl 0 rfl) ?_
  replace z := ob z
  obtain ⟨v2, zv2, z⟩ := z
  obtain ⟨fsv2, yv2, zv2⟩ := gR_e zv2
  refine c_get S hG hH (ci := 0) (k := 10) rfl in_X0 (Nat.le_of_ble_eq_true rfl) q490 (fun _ y => y) yv2 zv2 dX0_on_199 ?_
  refine lv_bipush (v := (24 : Int32)) hx hb dX0_on_202 (by decide) ?_
  refine c_aload_n hx hb dX0_on_204 rfl (lv_at hl 0 rfl) ?_
  refine lv_iconst (v := (0 : Int32)) hx hb dX0_on_205 (by decide) ?_
  replace z := ob z
  obtain ⟨b3, zb3, z⟩ := z
  obtain ⟨yb3, zb3⟩ := rcv_e zb3
  replace z := ob z
  obtain ⟨x4, zx4, z⟩ := z
  refine c_calli hH hS hRM (fun _ _ f1 f2 => va_runV (b := b3) (As := [.int (0 : Int32)]) (rest := [.int (24 : Int32), va_rf v2]) S (metX0_twoAt zx4) (cwV 1 hts (lw_V q1710 q1712 qs62 q167 q1713) rfl rfl rfl (by decide +kernel) ⟨(Nat.le_of_ble_eq_true rfl), (Nat.le_of_ble_eq_true rfl)⟩) (c_preV hG hH hS (ci := 0) rfl zb3) rfl rfl hl.1 (by rw [yb3]; rfl) (lv_room (by simp [ct_r, ct_i, ct_l])) dX0_on_206 ⟨f1, f2⟩) (fun H locs hH hS => ?_)
  refine lv_imul hx hb dX0_on_209 ?_
  refine c_aload_n hx hb dX0_on_210 rfl (lv_at hl 0 rfl) ?_
  refine lv_iconst (v := (2 : Int32)) hx hb dX0_on_211 (by decide) ?_
  replace z := ob z
  obtain ⟨b5, zb5, z⟩ := z
  obtain ⟨yb5, zb5⟩ := rcv_e zb5
  replace z := ob z
  obtain ⟨x6, zx6, z⟩ := z
  refine c_calli hH hS hRM (fun _ _ f1 f2 => va_runV (b := b5) (As := [.int (2 : Int32)]) (rest := [.int ((24 : Int32) * x4), va_rf v2]) S (metX0_byteAt zx6) (cwV 1 hts (lw_V q1588 q1590 qs56 q167 q1591) rfl rfl rfl (by decide +kernel) ⟨(Nat.le_of_ble_eq_true rfl), (Nat.le_of_ble_eq_true rfl)⟩) (c_preV hG hH hS (ci := 0) rfl zb5) rfl rfl hl.1 (by rw [yb5]; rfl) (lv_room (by simp [ct_r, ct_i, ct_l])) dX0_on_212 ⟨f1, f2⟩) (fun H locs hH hS => ?_)
  refine lv_iadd hx hb dX0_on_215 ?_
  replace z := ob z
  obtain ⟨h7, zh7, z⟩ := z
  refine c_putN S hG hH hS (ci := 5) (k := 0) rfl in_X5 tyX5 tyX5_ok nmX5 (Nat.le_of_ble_eq_true rfl) q430 (fun _ y => y) rfl (ty := .int) rfl rfl rfl zh7 dX0_on_216 (fun H locs hH hS => ?_)
  refine c_aload_n hx hb dX0_on_219 rfl (lv_at hl 0 rfl) ?_
  replace z := ob z
  obtain ⟨v8, zv8, z⟩ := z
  obtain ⟨fsv8, yv8, zv8⟩ := gR_e zv8
  refine c_get S hG hH (ci := 0) (k := 10) rfl in_X0 (Nat.le_of_ble_eq_true rfl) q490 (fun _ y => y) yv8 zv8 dX0_on_220 ?_
  refine lv_iconst (v := (0 : Int32)) hx hb dX0_on_223 (by decide) ?_
  replace z := ob z
  obtain ⟨h9, zh9, z⟩ := z
  refine c_putN S hG hH hS (ci := 5) (k := 2) rfl in_X5 tyX5 tyX5_ok nmX5 (Nat.le_of_ble_eq_true rfl) q434 (fun _ y => y) rfl (ty := .int) rfl rfl rfl zh9 dX0_on_224 (fun H locs hH hS => ?_)
  refine c_aload_n hx hb dX0_on_227 rfl (lv_at hl 0 rfl) ?_
  replace z := ob z
  obtain ⟨v10, zv10, z⟩ := z
  obtain ⟨fsv10, yv10, zv10⟩ := gR_e zv10
  refine c_get S hG hH (ci := 0) (k := 9) rfl in_X0 (Nat.le_of_ble_eq_true rfl) q489 (fun _ y => y) yv10 zv10 dX0_on_228 ?_
  refine c_aload_n hx hb dX0_on_231 rfl (lv_at hl 0 rfl) ?_
  replace z := ob z
  obtain ⟨v11, zv11, z⟩ := z
  obtain ⟨fsv11, yv11, zv11⟩ := gR_e zv11
  refine c_get S hG hH (ci := 0) (k := 10) rfl in_X0 (Nat.le_of_ble_eq_true rfl) q490 (fun _ y => y) yv11 zv11 dX0_on_232 ?_
  replace z := ob z
  obtain ⟨b12, zb12, z⟩ := z
  obtain ⟨yb12, zb12⟩ := rcv_e zb12
  replace z := ob z
  obtain ⟨x13, zx13, z⟩ := z
  refine c_callq hH hS hRM (fun _ _ f1 f2 => va_runV (b := b12) (As := [va_rf v11]) (rest := []) S (metX5_copy zx13) (cwV 1 hts (lw_V q1487 q1488 q1489 q178 q1490) rfl rfl rfl (by decide +kernel) ⟨(Nat.le_of_ble_eq_true rfl), (Nat.le_of_ble_eq_true rfl)⟩) (c_preV hG hH hS (ci := 5) rfl zb12) rfl rfl hl.1 (by rw [yb12]; rfl) (lv_room (Nat.le_of_ble_eq_true rfl)) dX0_on_235 ⟨f1, f2⟩) (fun H locs hH hS => ?_)
  refine lv_pop hx hb dX0_on_238 (ct_r _) ?_
  refine c_aload_n hx hb dX0_on_239 rfl (lv_at hl 0 rfl) ?_
  refine lv_iconst (v := (0 : Int32)) hx hb dX0_on_240 (by decide) ?_
  replace z := ob z
  obtain ⟨h14, zh14, z⟩ := z
  refine c_put S hG hH hS (ci := 0) (k := 17) rfl in_X0 tyX0 tyX0_ok nmX0 (Nat.le_of_ble_eq_true rfl) q497 (fun _ y => y) rfl (ty := .int) rfl rfl rfl zh14 dX0_on_241 (fun H locs hH hS => ?_)
  refine lv_iconst (v := (1 : Int32)) hx hb dX0_on_244 (by decide) ?_
  exact c_iret S hr hlk rfl hH hS z dX0_on_245
set_option maxHeartbeats 4000000 in
theorem wX0_on_145 {p : Program} {l : Launch} {e : Env} {s : State} {m : MethodId} {args : Array Value} {below : List Frame} {meth : Method} {c : Code} {A : Nat → Prop} {D : va_G} {ac : Nat → ClassId} {K : KE} {h0 : HS} {a0 : Nat} (S : CallFix p m c cX0_on 6 s args lw_all RX0) (hr : meth.sig.returnType = some .boolean) (hlk : meth.locks = false) (hnm : meth.name = "on") (hG : GK A D ac K s) (hRM : RM K s (rmC 6 109 K h0)) {x : HS × Int32} : ∀ (n : Nat) (h : HS) (a3 : Int32) (a4 : Int32) (a5 : Int32), fX0_on_145 K a0 n h a3 a4 a5 = some x → cGo p l e (rmC 6 109 K h0) s m args below meth c A D ac K (MQ below (cQi A D ac K x) args s (K.2.2.1 - h0.2.1) (K.2.2.2 - h0.2.2) A) 6 145 [(0, va_rf (some a0)), (3, .int a3), (4, .int a4), (5, .int a5)] [] h := by
  obtain ⟨hx, hb, hml, hown, hts⟩ := id S
  intro n
  induction n with
  | zero => intro h a3 a4 a5 z; cases z
  | succ n ih =>
    intro h a3 a4 a5 z H locs hH hS ls hl
    rw [fX0_on_145] at z
    refine lv_iload hx hb dX0_on_145 (lv_at hl 3 rfl) ?_
    refine c_aload_n hx hb dX0_on_147 rfl (lv_at hl 0 rfl) ?_
    replace z := ob z
    obtain ⟨b1, zb1, z⟩ := z
    obtain ⟨yb1, zb1⟩ := rcv_e zb1
    replace z := ob z
    obtain ⟨x2, zx2, z⟩ := z
    refine c_calli hH hS hRM (fun _ _ f1 f2 => va_runV (b := b1) (As := []) (rest := [.int a5]) S (metX0_people zx2) (cwV 0 hts (lw_V q1278 q1280 qs37 q167 q1281) rfl rfl rfl (by decide +kernel) ⟨(Nat.le_of_ble_eq_true rfl), (Nat.le_of_ble_eq_true rfl)⟩) (c_preV hG hH hS (ci := 0) rfl zb1) rfl rfl hl.1 (by rw [yb1]; rfl) (lv_room (Nat.le_of_ble_eq_true rfl)) dX0_on_148 ⟨f1, f2⟩) (fun H locs hH hS => ?_)
    refine lv_icmp_ge (tgt := 179) hx hb dX0_on_151 (by decide) (fun c3 => ?_) (fun c3 => ?_)
    · replace z := it c3 z
      exact wX0_on_179 S hr hlk hnm hG hRM h a4 z _ _ hH hS _ (lv_sub hl [0, 2] rfl)
    replace z := ie c3 z
    refine lv_iload hx hb dX0_on_154 (lv_at hl 2 rfl) ?_
    refine lv_if_eq (tgt := 179) hx hb dX0_on_156 (by decide) (fun c4 => ?_) (fun c4 => ?_)
    · replace z := it c4 z
      exact wX0_on_179 S hr hlk hnm hG hRM h a4 z _ _ hH hS _ (lv_sub hl [0, 2] rfl)
    replace z := ie c4 z
    refine c_aload_n hx hb dX0_on_159 rfl (lv_at hl 0 rfl) ?_
    refine lv_iload hx hb dX0_on_160 (lv_at hl 3 rfl) ?_
    refine lv_iload_n hx hb dX0_on_162 rfl (lv_at hl 1 rfl) ?_
    refine lv_iconst (v := (3 : Int32)) hx hb dX0_on_163 (by decide) ?_
    refine lv_iload hx hb dX0_on_164 (lv_at hl 3 rfl) ?_
    refine lv_imul hx hb dX0_on_166 ?_
    refine lv_iadd hx hb dX0_on_167 ?_
    replace z := ob z
    obtain ⟨b5, zb5, z⟩ := z
    obtain ⟨yb5, zb5⟩ := rcv_e zb5
    replace z := ob z
    obtain ⟨x6, zx6, z⟩ := z
    refine c_calli hH hS hRM (fun _ _ f1 f2 => va_runV (b := b5) (As := [.int a5, .int (a3 + ((3 : Int32) * a5))]) (rest := []) S (metX0_personOn zx6) (cwV 2 hts (lw_V q1718 q1720 qs64 q167 q1721) rfl rfl rfl (by decide +kernel) ⟨(Nat.le_of_ble_eq_true rfl), (Nat.le_of_ble_eq_true rfl)⟩) (c_preV hG hH hS (ci := 0) rfl zb5) rfl rfl hl.1 (by rw [yb5]; rfl) (lv_room (Nat.le_of_ble_eq_true rfl)) dX0_on_168 ⟨f1, f2⟩) (fun H locs hH hS => ?_)
    refine lv_istore (lv' := [(4, .int x6.2), (0, va_rf (some a0)), (3, .int a3), (5, .int a5)]) hx hb dX0_on_171 hl (by decide) rfl (fun ls hl => ?_)
    refine lv_iinc (v := (a5 + (1 : Int32))) (lv' := [(5, .int (a5 + (1 : Int32))), (4, .int x6.2), (0, va_rf (some a0)), (3, .int a3)]) hx hb dX0_on_173 hl (k := 3) rfl rfl (by decide) rfl (fun ls hl => ?_)
    refine lv_goto (tgt := 145) hx hb dX0_on_176 (by decide) ?_
    exact ih x6.1 a3 x6.2 (a5 + (1 : Int32)) z _ _ hH hS _ (lv_sub hl [2, 3, 1, 0] rfl)
set_option maxHeartbeats 4000000 in
theorem wX0_on_142 {p : Program} {l : Launch} {e : Env} {s : State} {m : MethodId} {args : Array Value} {below : List Frame} {meth : Method} {c : Code} {A : Nat → Prop} {D : va_G} {ac : Nat → ClassId} {K : KE} {h0 : HS} {a0 : Nat} (S : CallFix p m c cX0_on 6 s args lw_all RX0) (hr : meth.sig.returnType = some .boolean) (hlk : meth.locks = false) (hnm : meth.name = "on") (hG : GK A D ac K s) (hRM : RM K s (rmC 6 109 K h0)) {x : HS × Int32} : ∀ (h : HS) (a3 : Int32) (a4 : Int32), fX0_on_142 K a0 h a3 a4 = some x → cGo p l e (rmC 6 109 K h0) s m args below meth c A D ac K (MQ below (cQi A D ac K x) args s (K.2.2.1 - h0.2.1) (K.2.2.2 - h0.2.2) A) 6 142 [(0, va_rf (some a0)), (3, .int a3), (4, .int a4)] [] h := by
  obtain ⟨hx, hb, hml, hown, hts⟩ := id S
  intro h a3 a4 z H locs hH hS ls hl
  unfold fX0_on_142 at z
  refine lv_iconst (v := (0 : Int32)) hx hb dX0_on_142 (by decide) ?_
  refine lv_istore (lv' := [(5, .int (0 : Int32)), (0, va_rf (some a0)), (3, .int a3), (4, .int a4)]) hx hb dX0_on_143 hl (by decide) rfl (fun ls hl => ?_)
  exact wX0_on_145 S hr hlk hnm hG hRM FU h a3 a4 (0 : Int32) z _ _ hH hS _ (lv_sub hl [1, 2, 3, 0] rfl)
set_option maxHeartbeats 4000000 in
theorem wX0_on_108 {p : Program} {l : Launch} {e : Env} {s : State} {m : MethodId} {args : Array Value} {below : List Frame} {meth : Method} {c : Code} {A : Nat → Prop} {D : va_G} {ac : Nat → ClassId} {K : KE} {h0 : HS} {a0 : Nat} (S : CallFix p m c cX0_on 6 s args lw_all RX0) (hr : meth.sig.returnType = some .boolean) (hlk : meth.locks = false) (hnm : meth.name = "on") (hG : GK A D ac K s) (hRM : RM K s (rmC 6 109 K h0)) {x : HS × Int32} : ∀ (n : Nat) (h : HS) (a2 : Int32) (a3 : Int32) (a4 : Int32) (a5 : Int32), fX0_on_108 K a0 n h a2 a3 a4 a5 = some x → cGo p l e (rmC 6 109 K h0) s m args below meth c A D ac K (MQ below (cQi A D ac K x) args s (K.2.2.1 - h0.2.1) (K.2.2.2 - h0.2.2) A) 6 108 [(0, va_rf (some a0)), (2, .int a2), (3, .int a3), (4, .int a4), (5, .int a5)] [] h := by
  obtain ⟨hx, hb, hml, hown, hts⟩ := id S
  intro n
  induction n with
  | zero => intro h a2 a3 a4 a5 z; cases z
  | succ n ih =>
    intro h a2 a3 a4 a5 z H locs hH hS ls hl
    rw [fX0_on_108] at z
    refine lv_iload hx hb dX0_on_108 (lv_at hl 4 rfl) ?_
    refine c_aload_n hx hb dX0_on_110 rfl (lv_at hl 0 rfl) ?_
    replace z := ob z
    obtain ⟨b1, zb1, z⟩ := z
    obtain ⟨yb1, zb1⟩ := rcv_e zb1
    replace z := ob z
    obtain ⟨x2, zx2, z⟩ := z
    refine c_calli hH hS hRM (fun _ _ f1 f2 => va_runV (b := b1) (As := []) (rest := [.int a5]) S (metX0_people zx2) (cwV 0 hts (lw_V q1278 q1280 qs37 q167 q1281) rfl rfl rfl (by decide +kernel) ⟨(Nat.le_of_ble_eq_true rfl), (Nat.le_of_ble_eq_true rfl)⟩) (c_preV hG hH hS (ci := 0) rfl zb1) rfl rfl hl.1 (by rw [yb1]; rfl) (lv_room (Nat.le_of_ble_eq_true rfl)) dX0_on_111 ⟨f1, f2⟩) (fun H locs hH hS => ?_)
    refine lv_icmp_gt (tgt := 142) hx hb dX0_on_114 (by decide) (fun c3 => ?_) (fun c3 => ?_)
    · replace z := it c3 z
      exact wX0_on_142 S hr hlk hnm hG hRM h a3 a4 z _ _ hH hS _ (lv_sub hl [0, 2, 3] rfl)
    replace z := ie c3 z
    refine lv_iload hx hb dX0_on_117 (lv_at hl 3 rfl) ?_
    refine lv_if_eq (tgt := 142) hx hb dX0_on_119 (by decide) (fun c4 => ?_) (fun c4 => ?_)
    · replace z := it c4 z
      exact wX0_on_142 S hr hlk hnm hG hRM h a3 a4 z _ _ hH hS _ (lv_sub hl [0, 2, 3] rfl)
    replace z := ie c4 z
    refine c_aload_n hx hb dX0_on_122 rfl (lv_at hl 0 rfl) ?_
    refine lv_iload hx hb dX0_on_123 (lv_at hl 4 rfl) ?_
    refine lv_iconst (v := (3 : Int32)) hx hb dX0_on_125 (by decide) ?_
    refine lv_iload_n hx hb dX0_on_126 rfl (lv_at hl 1 rfl) ?_
    refine lv_iload hx hb dX0_on_127 (lv_at hl 4 rfl) ?_
    refine lv_imul hx hb dX0_on_129 ?_
    refine lv_iadd hx hb dX0_on_130 ?_
    replace z := ob z
    obtain ⟨b5, zb5, z⟩ := z
    obtain ⟨yb5, zb5⟩ := rcv_e zb5
    replace z := ob z
    obtain ⟨x6, zx6, z⟩ := z
    refine c_calli hH hS hRM (fun _ _ f1 f2 => va_runV (b := b5) (As := [.int a5, .int ((3 : Int32) + (a2 * a5))]) (rest := []) S (metX0_profileOn zx6) (cwV 2 hts (lw_V q1714 q1716 qs63 q167 q1717) rfl rfl rfl (by decide +kernel) ⟨(Nat.le_of_ble_eq_true rfl), (Nat.le_of_ble_eq_true rfl)⟩) (c_preV hG hH hS (ci := 0) rfl zb5) rfl rfl hl.1 (by rw [yb5]; rfl) (lv_room (Nat.le_of_ble_eq_true rfl)) dX0_on_131 ⟨f1, f2⟩) (fun H locs hH hS => ?_)
    refine lv_istore (lv' := [(4, .int x6.2), (0, va_rf (some a0)), (2, .int a2), (3, .int a3), (5, .int a5)]) hx hb dX0_on_134 hl (by decide) rfl (fun ls hl => ?_)
    refine lv_iinc (v := (a5 + (1 : Int32))) (lv' := [(5, .int (a5 + (1 : Int32))), (4, .int x6.2), (0, va_rf (some a0)), (2, .int a2), (3, .int a3)]) hx hb dX0_on_136 hl (k := 4) rfl rfl (by decide) rfl (fun ls hl => ?_)
    refine lv_goto (tgt := 108) hx hb dX0_on_139 (by decide) ?_
    exact ih x6.1 a2 a3 x6.2 (a5 + (1 : Int32)) z _ _ hH hS _ (lv_sub hl [2, 3, 4, 1, 0] rfl)
set_option maxHeartbeats 4000000 in
theorem wX0_on_88 {p : Program} {l : Launch} {e : Env} {s : State} {m : MethodId} {args : Array Value} {below : List Frame} {meth : Method} {c : Code} {A : Nat → Prop} {D : va_G} {ac : Nat → ClassId} {K : KE} {h0 : HS} {a0 : Nat} (S : CallFix p m c cX0_on 6 s args lw_all RX0) (hr : meth.sig.returnType = some .boolean) (hlk : meth.locks = false) (hnm : meth.name = "on") (hG : GK A D ac K s) (hRM : RM K s (rmC 6 109 K h0)) {x : HS × Int32} : ∀ (h : HS) (a2 : Int32) (a3 : Int32) (t0 : Int32), fX0_on_88 K a0 h a2 a3 t0 = some x → cGo p l e (rmC 6 109 K h0) s m args below meth c A D ac K (MQ below (cQi A D ac K x) args s (K.2.2.1 - h0.2.1) (K.2.2.2 - h0.2.2) A) 6 88 [(0, va_rf (some a0)), (2, .int a2), (3, .int a3)] [.int t0] h := by
  obtain ⟨hx, hb, hml, hown, hts⟩ := id S
  intro h a2 a3 t0 z H locs hH hS ls hl
  unfold fX0_on_88 at z
  refine lv_istore (lv' := [(4, .int t0), (0, va_rf (some a0)), (2, .int a2), (3, .int a3)]) hx hb dX0_on_88 hl (by decide) rfl (fun ls hl => ?_)
  refine c_aload_n hx hb dX0_on_90 rfl (lv_at hl 1 rfl) ?_
  replace z := ob z
  obtain ⟨v1, zv1, z⟩ := z
  obtain ⟨fsv1, yv1, zv1⟩ := gR_e zv1
  refine c_get S hG hH (ci := 0) (k := 10) rfl in_X0 (Nat.le_of_ble_eq_true rfl) q490 (fun _ y => y) yv1 zv1 dX0_on_91 ?_
  refine c_aload_n hx hb dX0_on_94 rfl (lv_at hl 1 rfl) ?_
  replace z := ob z
  obtain ⟨v2, zv2, z⟩ := z
  obtain ⟨fsv2, yv2, zv2⟩ := gR_e zv2
  refine c_get S hG hH (ci := 0) (k := 9) rfl in_X0 (Nat.le_of_ble_eq_true rfl) q489 (fun _ y => y) yv2 zv2 dX0_on_95 ?_
  replace z := ob z
  obtain ⟨b3, zb3, z⟩ := z
  obtain ⟨yb3, zb3⟩ := rcv_e zb3
  replace z := ob z
  obtain ⟨x4, zx4, z⟩ := z
  refine c_callq hH hS hRM (fun _ _ f1 f2 => va_runV (b := b3) (As := [va_rf v2]) (rest := []) S (metX5_copy zx4) (cwV 1 hts (lw_V q1487 q1488 q1489 q178 q1490) rfl rfl rfl (by decide +kernel) ⟨(Nat.le_of_ble_eq_true rfl), (Nat.le_of_ble_eq_true rfl)⟩) (c_preV hG hH hS (ci := 5) rfl zb3) rfl rfl hl.1 (by rw [yb3]; rfl) (lv_room (Nat.le_of_ble_eq_true rfl)) dX0_on_98 ⟨f1, f2⟩) (fun H locs hH hS => ?_)
  refine lv_iconst (v := (0 : Int32)) hx hb dX0_on_101 (by decide) ?_
  replace z := ob z
  obtain ⟨h5, zh5, z⟩ := z
  refine c_putN S hG hH hS (ci := 5) (k := 1) rfl in_X5 tyX5 tyX5_ok nmX5 (Nat.le_of_ble_eq_true rfl) q432 (fun _ y => y) rfl (ty := .int) rfl rfl rfl zh5 dX0_on_102 (fun H locs hH hS => ?_)
  refine lv_iconst (v := (0 : Int32)) hx hb dX0_on_105 (by decide) ?_
  refine lv_istore (lv' := [(5, .int (0 : Int32)), (4, .int t0), (0, va_rf (some a0)), (2, .int a2), (3, .int a3)]) hx hb dX0_on_106 hl (by decide) rfl (fun ls hl => ?_)
  exact wX0_on_108 S hr hlk hnm hG hRM FU h5 a2 a3 t0 (0 : Int32) z _ _ hH hS _ (lv_sub hl [2, 3, 4, 1, 0] rfl)
set_option maxHeartbeats 4000000 in
theorem wX0_on_87 {p : Program} {l : Launch} {e : Env} {s : State} {m : MethodId} {args : Array Value} {below : List Frame} {meth : Method} {c : Code} {A : Nat → Prop} {D : va_G} {ac : Nat → ClassId} {K : KE} {h0 : HS} {a0 : Nat} (S : CallFix p m c cX0_on 6 s args lw_all RX0) (hr : meth.sig.returnType = some .boolean) (hlk : meth.locks = false) (hnm : meth.name = "on") (hG : GK A D ac K s) (hRM : RM K s (rmC 6 109 K h0)) {x : HS × Int32} : ∀ (h : HS) (a2 : Int32) (a3 : Int32), fX0_on_87 K a0 h a2 a3 = some x → cGo p l e (rmC 6 109 K h0) s m args below meth c A D ac K (MQ below (cQi A D ac K x) args s (K.2.2.1 - h0.2.1) (K.2.2.2 - h0.2.2) A) 6 87 [(0, va_rf (some a0)), (2, .int a2), (3, .int a3)] [] h := by
  obtain ⟨hx, hb, hml, hown, hts⟩ := id S
  intro h a2 a3 z H locs hH hS ls hl
  unfold fX0_on_87 at z
  refine lv_iconst (v := (0 : Int32)) hx hb dX0_on_87 (by decide) ?_
  exact wX0_on_88 S hr hlk hnm hG hRM h a2 a3 (0 : Int32) z _ _ hH hS _ (lv_sub hl [0, 1, 2] rfl)
set_option maxHeartbeats 4000000 in
theorem metX0_on {l : Launch} {A : Nat → Prop} {D : va_G} {ac : Nat → ClassId} {K : KE} {h : HS} {a0 : Nat} {x : HS × Int32} (z : fX0_on K h a0 = some x) : Met l yX0_on (ws_ yX0_on cX0_on 6 (some .boolean)) (rmC 6 109 K h) (cP A D ac K h [va_rf (some a0)]) (cQi A D ac K x) (K.2.2.1 - h.2.1) (K.2.2.2 - h.2.2) A := by
  refine c_entry (plainFor_of_name (by decide)) (Nat.le_of_ble_eq_true rfl) ?_
  intro p e s m below meth c S hr hlk hnm hG hRM hH hS ls hl
  replace hl : lv_has ls 6 [(0, va_rf (some a0))] := hl
  replace hnm : meth.name = "on" := hnm
  replace S : CallFix p m c cX0_on 6 s _ lw_all RX0 := S
  obtain ⟨hx, hb, hml, hown, hts⟩ := id S
  unfold fX0_on at z
  refine c_aload_n hx hb dX0_on_0 rfl (lv_at hl 0 rfl) ?_
  replace z := ob z
  obtain ⟨b1, zb1, z⟩ := z
  obtain ⟨yb1, zb1⟩ := rcv_e zb1
  replace z := ob z
  obtain ⟨x2, zx2, z⟩ := z
  refine c_calli hH hS hRM (fun _ _ f1 f2 => va_runV (b := b1) (As := []) (rest := []) S (metX0_taken zx2) (cwV 0 hts (lw_V q569 q571 qs3 q167 q572) rfl rfl rfl (by decide +kernel) ⟨(Nat.le_of_ble_eq_true rfl), (Nat.le_of_ble_eq_true rfl)⟩) (c_preV hG hH hS (ci := 0) rfl zb1) rfl rfl hl.1 (by rw [yb1]; rfl) (lv_room (Nat.le_of_ble_eq_true rfl)) dX0_on_1 ⟨f1, f2⟩) (fun H locs hH hS => ?_)
  refine lv_istore_n (lv' := [(1, .int x2.2), (0, va_rf (some a0))]) hx hb dX0_on_4 rfl hl (by decide) rfl (fun ls hl => ?_)
  refine lv_iconst (v := (2 : Int32)) hx hb dX0_on_5 (by decide) ?_
  refine c_aload_n hx hb dX0_on_6 rfl (lv_at hl 1 rfl) ?_
  replace z := ob z
  obtain ⟨b3, zb3, z⟩ := z
  obtain ⟨yb3, zb3⟩ := rcv_e zb3
  replace z := ob z
  obtain ⟨x4, zx4, z⟩ := z
  refine c_calli hH hS hRM (fun _ _ f1 f2 => va_runV (b := b3) (As := []) (rest := [.int (2 : Int32)]) S (metX0_kinds zx4) (cwV 0 hts (lw_V q1268 q1270 qs35 q167 q1271) rfl rfl rfl (by decide +kernel) ⟨(Nat.le_of_ble_eq_true rfl), (Nat.le_of_ble_eq_true rfl)⟩) (c_preV hG hH hS (ci := 0) rfl zb3) rfl rfl hl.1 (by rw [yb3]; rfl) (lv_room (Nat.le_of_ble_eq_true rfl)) dX0_on_7 ⟨f1, f2⟩) (fun H locs hH hS => ?_)
  refine lv_imul hx hb dX0_on_10 ?_
  refine c_aload_n hx hb dX0_on_11 rfl (lv_at hl 1 rfl) ?_
  replace z := ob z
  obtain ⟨b5, zb5, z⟩ := z
  obtain ⟨yb5, zb5⟩ := rcv_e zb5
  replace z := ob z
  obtain ⟨x6, zx6, z⟩ := z
  refine c_calli hH hS hRM (fun _ _ f1 f2 => va_runV (b := b5) (As := []) (rest := [.int ((2 : Int32) * x4)]) S (metX0_films zx6) (cwV 0 hts (lw_V q1274 q1276 qs36 q167 q1277) rfl rfl rfl (by decide +kernel) ⟨(Nat.le_of_ble_eq_true rfl), (Nat.le_of_ble_eq_true rfl)⟩) (c_preV hG hH hS (ci := 0) rfl zb5) rfl rfl hl.1 (by rw [yb5]; rfl) (lv_room (Nat.le_of_ble_eq_true rfl)) dX0_on_12 ⟨f1, f2⟩) (fun H locs hH hS => ?_)
  refine lv_iadd hx hb dX0_on_15 ?_
  refine lv_istore_n (lv' := [(2, .int (((2 : Int32) * x4) + x6)), (1, .int x2.2), (0, va_rf (some a0))]) hx hb dX0_on_16 rfl hl (by decide) rfl (fun ls hl => ?_)
  refine lv_iconst (v := (3 : Int32)) hx hb dX0_on_17 (by decide) ?_
  refine lv_iload_n hx hb dX0_on_18 rfl (lv_at hl 0 rfl) ?_
  refine c_aload_n hx hb dX0_on_19 rfl (lv_at hl 2 rfl) ?_
  replace z := ob z
  obtain ⟨b7, zb7, z⟩ := z
  obtain ⟨yb7, zb7⟩ := rcv_e zb7
  replace z := ob z
  obtain ⟨x8, zx8, z⟩ := z
  refine c_calli hH hS hRM (fun _ _ f1 f2 => va_runV (b := b7) (As := []) (rest := [.int (((2 : Int32) * x4) + x6), .int (3 : Int32)]) S (metX0_people zx8) (cwV 0 hts (lw_V q1278 q1280 qs37 q167 q1281) rfl rfl rfl (by decide +kernel) ⟨(Nat.le_of_ble_eq_true rfl), (Nat.le_of_ble_eq_true rfl)⟩) (c_preV hG hH hS (ci := 0) rfl zb7) rfl rfl hl.1 (by rw [yb7]; rfl) (lv_room (Nat.le_of_ble_eq_true rfl)) dX0_on_20 ⟨f1, f2⟩) (fun H locs hH hS => ?_)
  refine lv_iconst (v := (1 : Int32)) hx hb dX0_on_23 (by decide) ?_
  refine lv_iadd hx hb dX0_on_24 ?_
  refine lv_imul hx hb dX0_on_25 ?_
  refine lv_iadd hx hb dX0_on_26 ?_
  refine lv_istore_n (lv' := [(3, .int ((3 : Int32) + ((((2 : Int32) * x4) + x6) * (x8 + (1 : Int32))))), (2, .int (((2 : Int32) * x4) + x6)), (1, .int x2.2), (0, va_rf (some a0))]) hx hb dX0_on_27 rfl hl (by decide) rfl (fun ls hl => ?_)
  refine lv_iload_n hx hb dX0_on_28 rfl (lv_at hl 2 rfl) ?_
  refine lv_iload_n hx hb dX0_on_29 rfl (lv_at hl 0 rfl) ?_
  refine lv_iconst (v := (3 : Int32)) hx hb dX0_on_30 (by decide) ?_
  refine c_aload_n hx hb dX0_on_31 rfl (lv_at hl 3 rfl) ?_
  replace z := ob z
  obtain ⟨b9, zb9, z⟩ := z
  obtain ⟨yb9, zb9⟩ := rcv_e zb9
  replace z := ob z
  obtain ⟨x10, zx10, z⟩ := z
  refine c_calli hH hS hRM (fun _ _ f1 f2 => va_runV (b := b9) (As := []) (rest := [.int (3 : Int32), .int ((3 : Int32) + ((((2 : Int32) * x4) + x6) * (x8 + (1 : Int32)))), .int x2.2]) S (metX0_people zx10) (cwV 0 hts (lw_V q1278 q1280 qs37 q167 q1281) rfl rfl rfl (by decide +kernel) ⟨(Nat.le_of_ble_eq_true rfl), (Nat.le_of_ble_eq_true rfl)⟩) (c_preV hG hH hS (ci := 0) rfl zb9) rfl rfl hl.1 (by rw [yb9]; rfl) (lv_room (Nat.le_of_ble_eq_true rfl)) dX0_on_32 ⟨f1, f2⟩) (fun H locs hH hS => ?_)
  refine lv_imul hx hb dX0_on_35 ?_
  refine lv_iadd hx hb dX0_on_36 ?_
  refine lv_iconst (v := (1 : Int32)) hx hb dX0_on_37 (by decide) ?_
  refine lv_iadd hx hb dX0_on_38 ?_
  refine lv_icmp_ne (tgt := 87) hx hb dX0_on_39 (by decide) (fun c11 => ?_) (fun c11 => ?_)
  · replace z := ie c11 z
    exact wX0_on_87 S hr hlk hnm hG hRM x2.1 (((2 : Int32) * x4) + x6) ((3 : Int32) + ((((2 : Int32) * x4) + x6) * (x8 + (1 : Int32)))) z _ _ hH hS _ (lv_sub hl [3, 1, 0] rfl)
  replace z := it c11 z
  refine c_aload_n hx hb dX0_on_42 rfl (lv_at hl 3 rfl) ?_
  refine lv_iload_n hx hb dX0_on_43 rfl (lv_at hl 2 rfl) ?_
  refine lv_iconst (v := (1 : Int32)) hx hb dX0_on_44 (by decide) ?_
  refine lv_isub hx hb dX0_on_45 ?_
  replace z := ob z
  obtain ⟨b12, zb12, z⟩ := z
  obtain ⟨yb12, zb12⟩ := rcv_e zb12
  replace z := ob z
  obtain ⟨x13, zx13, z⟩ := z
  refine c_calli hH hS hRM (fun _ _ f1 f2 => va_runV (b := b12) (As := [.int (x2.2 - (1 : Int32))]) (rest := []) S (metX0_byteAt zx13) (cwV 1 hts (lw_V q1588 q1590 qs56 q167 q1591) rfl rfl rfl (by decide +kernel) ⟨(Nat.le_of_ble_eq_true rfl), (Nat.le_of_ble_eq_true rfl)⟩) (c_preV hG hH hS (ci := 0) rfl zb12) rfl rfl hl.1 (by rw [yb12]; rfl) (lv_room (Nat.le_of_ble_eq_true rfl)) dX0_on_46 ⟨f1, f2⟩) (fun H locs hH hS => ?_)
  refine c_aload_n hx hb dX0_on_49 rfl (lv_at hl 3 rfl) ?_
  replace z := ob z
  obtain ⟨v14, zv14, z⟩ := z
  obtain ⟨fsv14, yv14, zv14⟩ := gR_e zv14
  refine c_get S hG hH (ci := 0) (k := 1) rfl in_X0 (Nat.le_of_ble_eq_true rfl) q480 (fun _ y => y) yv14 zv14 dX0_on_50 ?_
  refine lv_iload_n hx hb dX0_on_53 rfl (lv_at hl 2 rfl) ?_
  refine lv_iconst (v := (1 : Int32)) hx hb dX0_on_54 (by decide) ?_
  refine lv_isub hx hb dX0_on_55 ?_
  replace z := ob z
  obtain ⟨x15, zx15, z⟩ := z
  refine c_calli hH hS hRM (fun _ _ f1 f2 => va_runS (As := [va_rf v14, .int (x2.2 - (1 : Int32))]) (rest := [.int x13]) S (metX0_check zx15) (va_cwS 2 hts (lw_S q1699 q1700 q167 q1701) rfl rfl rfl (by decide +kernel) ⟨(Nat.le_of_ble_eq_true rfl), (Nat.le_of_ble_eq_true rfl)⟩) (c_pre hG hH hS) rfl rfl hl.1 rfl (lv_room (Nat.le_of_ble_eq_true rfl)) dX0_on_56 ⟨f1, f2⟩) (fun H locs hH hS => ?_)
  refine lv_icmp_ne (tgt := 87) hx hb dX0_on_59 (by decide) (fun c16 => ?_) (fun c16 => ?_)
  · replace z := ie c16 z
    exact wX0_on_87 S hr hlk hnm hG hRM x2.1 (((2 : Int32) * x4) + x6) ((3 : Int32) + ((((2 : Int32) * x4) + x6) * (x8 + (1 : Int32)))) z _ _ hH hS _ (lv_sub hl [3, 1, 0] rfl)
  replace z := it c16 z
  refine c_aload_n hx hb dX0_on_62 rfl (lv_at hl 3 rfl) ?_
  refine lv_iconst (v := (0 : Int32)) hx hb dX0_on_63 (by decide) ?_
  replace z := ob z
  obtain ⟨b17, zb17, z⟩ := z
  obtain ⟨yb17, zb17⟩ := rcv_e zb17
  replace z := ob z
  obtain ⟨x18, zx18, z⟩ := z
  refine c_calli hH hS hRM (fun _ _ f1 f2 => va_runV (b := b17) (As := [.int (0 : Int32)]) (rest := []) S (metX0_twoAt zx18) (cwV 1 hts (lw_V q1710 q1712 qs62 q167 q1713) rfl rfl rfl (by decide +kernel) ⟨(Nat.le_of_ble_eq_true rfl), (Nat.le_of_ble_eq_true rfl)⟩) (c_preV hG hH hS (ci := 0) rfl zb17) rfl rfl hl.1 (by rw [yb17]; rfl) (lv_room (Nat.le_of_ble_eq_true rfl)) dX0_on_64 ⟨f1, f2⟩) (fun H locs hH hS => ?_)
  refine lv_sipush (v := (999 : Int32)) hx hb dX0_on_67 (by decide) ?_
  refine lv_icmp_gt (tgt := 87) hx hb dX0_on_70 (by decide) (fun c19 => ?_) (fun c19 => ?_)
  · replace z := it c19 z
    exact wX0_on_87 S hr hlk hnm hG hRM x2.1 (((2 : Int32) * x4) + x6) ((3 : Int32) + ((((2 : Int32) * x4) + x6) * (x8 + (1 : Int32)))) z _ _ hH hS _ (lv_sub hl [3, 1, 0] rfl)
  replace z := ie c19 z
  refine c_aload_n hx hb dX0_on_73 rfl (lv_at hl 3 rfl) ?_
  refine lv_iconst (v := (2 : Int32)) hx hb dX0_on_74 (by decide) ?_
  replace z := ob z
  obtain ⟨b20, zb20, z⟩ := z
  obtain ⟨yb20, zb20⟩ := rcv_e zb20
  replace z := ob z
  obtain ⟨x21, zx21, z⟩ := z
  refine c_calli hH hS hRM (fun _ _ f1 f2 => va_runV (b := b20) (As := [.int (2 : Int32)]) (rest := []) S (metX0_byteAt zx21) (cwV 1 hts (lw_V q1588 q1590 qs56 q167 q1591) rfl rfl rfl (by decide +kernel) ⟨(Nat.le_of_ble_eq_true rfl), (Nat.le_of_ble_eq_true rfl)⟩) (c_preV hG hH hS (ci := 0) rfl zb20) rfl rfl hl.1 (by rw [yb20]; rfl) (lv_room (Nat.le_of_ble_eq_true rfl)) dX0_on_75 ⟨f1, f2⟩) (fun H locs hH hS => ?_)
  refine lv_bipush (v := (24 : Int32)) hx hb dX0_on_78 (by decide) ?_
  refine lv_icmp_ge (tgt := 87) hx hb dX0_on_80 (by decide) (fun c22 => ?_) (fun c22 => ?_)
  · replace z := it c22 z
    exact wX0_on_87 S hr hlk hnm hG hRM x2.1 (((2 : Int32) * x4) + x6) ((3 : Int32) + ((((2 : Int32) * x4) + x6) * (x8 + (1 : Int32)))) z _ _ hH hS _ (lv_sub hl [3, 1, 0] rfl)
  replace z := ie c22 z
  refine lv_iconst (v := (1 : Int32)) hx hb dX0_on_83 (by decide) ?_
  refine lv_goto (tgt := 88) hx hb dX0_on_84 (by decide) ?_
  exact wX0_on_88 S hr hlk hnm hG hRM x2.1 (((2 : Int32) * x4) + x6) ((3 : Int32) + ((((2 : Int32) * x4) + x6) * (x8 + (1 : Int32)))) (1 : Int32) z _ _ hH hS _ (lv_sub hl [3, 1, 0] rfl)
/-! FourOnOne.status(I)I -/
def fX0_status (K : KE) (h : HS) (a0 : Nat) (a1 : Int32) : Option (Int32) :=
  (fX0_is K h a1 (0 : Int32) (5 : Int32)).bind fun x1 =>
  if x1 = 0 then
    some (-1 : Int32)
  else
  (gR K h (some a0) 0 8).bind fun v3 =>
  (cI K h v3 0 a1).bind fun v4 =>
  some v4
set_option maxHeartbeats 4000000 in
theorem metX0_status {l : Launch} {A : Nat → Prop} {D : va_G} {ac : Nat → ClassId} {K : KE} {h : HS} {a0 : Nat} {a1 : Int32} {x : Int32} (z : fX0_status K h a0 a1 = some x) : Met l yX0_status (ws_ yX0_status cX0_status 2 (some .int)) (rmC 2 22 K h) (cP A D ac K h [va_rf (some a0), .int a1]) (cQi A D ac K (h, x)) (K.2.2.1 - h.2.1) (K.2.2.2 - h.2.2) A := by
  refine c_entry (plainFor_of_name (by decide)) (Nat.le_of_ble_eq_true rfl) ?_
  intro p e s m below meth c S hr hlk hnm hG hRM hH hS ls hl
  replace hl : lv_has ls 2 [(0, va_rf (some a0)), (1, .int a1)] := hl
  replace hnm : meth.name = "status" := hnm
  replace S : CallFix p m c cX0_status 2 s _ lw_all RX0 := S
  obtain ⟨hx, hb, hml, hown, hts⟩ := id S
  unfold fX0_status at z
  refine lv_iload_n hx hb dX0_status_0 rfl (lv_at hl 1 rfl) ?_
  refine lv_iconst (v := (0 : Int32)) hx hb dX0_status_1 (by decide) ?_
  refine lv_iconst (v := (5 : Int32)) hx hb dX0_status_2 (by decide) ?_
  replace z := ob z
  obtain ⟨x1, zx1, z⟩ := z
  refine c_calli hH hS hRM (fun _ _ f1 f2 => va_runS (As := [.int a1, .int (0 : Int32), .int (5 : Int32)]) (rest := []) S (metX0_is zx1) (va_cwS 3 hts (lw_S q1296 q924 q167 q925) rfl rfl rfl (by decide +kernel) ⟨(Nat.le_of_ble_eq_true rfl), (Nat.le_of_ble_eq_true rfl)⟩) (c_pre hG hH hS) rfl rfl hl.1 rfl (lv_room (Nat.le_of_ble_eq_true rfl)) dX0_status_3 ⟨f1, f2⟩) (fun H locs hH hS => ?_)
  refine lv_if_eq (tgt := 18) hx hb dX0_status_6 (by decide) (fun c2 => ?_) (fun c2 => ?_)
  · replace z := it c2 z
    refine lv_iconst (v := (-1 : Int32)) hx hb dX0_status_18 (by decide) ?_
    exact c_iret' S hr hlk rfl hH hS z dX0_status_19
  replace z := ie c2 z
  refine c_aload_n hx hb dX0_status_9 rfl (lv_at hl 0 rfl) ?_
  replace z := ob z
  obtain ⟨v3, zv3, z⟩ := z
  obtain ⟨fsv3, yv3, zv3⟩ := gR_e zv3
  refine c_get S hG hH (ci := 0) (k := 8) rfl in_X0 (Nat.le_of_ble_eq_true rfl) q488 (fun _ y => y) yv3 zv3 dX0_status_10 ?_
  refine lv_iload_n hx hb dX0_status_13 rfl (lv_at hl 1 rfl) ?_
  replace z := ob z
  obtain ⟨v4, zv4, z⟩ := z
  refine c_iald S hG hH zv4 dX0_status_14 ?_
  refine lv_goto (tgt := 19) hx hb dX0_status_15 (by decide) ?_
  exact c_iret' S hr hlk rfl hH hS z dX0_status_19
/-! FourOnOne$Chain.two(CJJ)J -/
def fX11_two (K : KE) (h : HS) (a0 : Int32) (a1 : Int64) (a3 : Int64) : Option (Int64) :=
  if a0 = 42 then
    some (a1 * a3)
  else
  if a0 = 43 then
    some (a1 + a3)
  else
  if a0 = 44 then
    if a3 = (0 : Int64) then
      some (0 : Int64)
    else
    (fJ12_floorDiv K h a1 a3).bind fun x4 =>
    some x4
  else
  if a0 = 45 then
    some (a1 - a3)
  else
  if a3 = (0 : Int64) then
    some (0 : Int64)
  else
  (fJ12_floorDiv K h a1 a3).bind fun x8 =>
  some x8
set_option maxHeartbeats 4000000 in
theorem metX11_two {l : Launch} {A : Nat → Prop} {D : va_G} {ac : Nat → ClassId} {K : KE} {h : HS} {a0 : Int32} {a1 : Int64} {a3 : Int64} {x : Int64} (z : fX11_two K h a0 a1 a3 = some x) : Met l yX11_two (ws_ yX11_two cX11_two 5 (some .long)) (rmC 2 25 K h) (cP A D ac K h [.int a0, .long a1, .long a3]) (cQl A D ac K (h, x)) (K.2.2.1 - h.2.1) (K.2.2.2 - h.2.2) A := by
  refine c_entry (plainFor_of_name (by decide)) (Nat.le_of_ble_eq_true rfl) ?_
  intro p e s m below meth c S hr hlk hnm hG hRM hH hS ls hl
  replace hl : lv_has ls 5 [(0, .int a0), (1, .long a1), (3, .long a3)] := hl
  replace hnm : meth.name = "two" := hnm
  replace S : CallFix p m c cX11_two 5 s _ lw_all RX11 := S
  obtain ⟨hx, hb, hml, hown, hts⟩ := id S
  unfold fX11_two at z
  refine lv_iload_n hx hb dX11_two_0 rfl (lv_at hl 0 rfl) ?_
  by_cases c1 : a0 = 42
  · replace z := it c1 z
    refine lv_tableIn (off := 39) (tgt := 40) hx hb dX11_two_1 (by rw [c1]; decide) (by rw [c1]; decide) (by rw [c1]; rfl) (by decide) ?_
    refine lv_lload_n hx hb dX11_two_40 rfl (lv_at hl 1 rfl) ?_
    refine lv_lload_n hx hb dX11_two_41 rfl (lv_at hl 2 rfl) ?_
    refine lv_lmul hx hb dX11_two_42 ?_
    exact c_lret' S hr hlk hH hS z dX11_two_43
  replace z := ie c1 z
  by_cases c2 : a0 = 43
  · replace z := it c2 z
    refine lv_tableIn (off := 31) (tgt := 32) hx hb dX11_two_1 (by rw [c2]; decide) (by rw [c2]; decide) (by rw [c2]; rfl) (by decide) ?_
    refine lv_lload_n hx hb dX11_two_32 rfl (lv_at hl 1 rfl) ?_
    refine lv_lload_n hx hb dX11_two_33 rfl (lv_at hl 2 rfl) ?_
    refine lv_ladd hx hb dX11_two_34 ?_
    exact c_lret' S hr hlk hH hS z dX11_two_35
  replace z := ie c2 z
  by_cases c5 : a0 = 44
  · replace z := it c5 z
    refine lv_tableIn (off := 43) (tgt := 44) hx hb dX11_two_1 (by rw [c5]; decide) (by rw [c5]; decide) (by rw [c5]; rfl) (by decide) ?_
    refine lv_lload_n hx hb dX11_two_44 rfl (lv_at hl 2 rfl) ?_
    refine lv_lconst (v := (0 : Int64)) hx hb dX11_two_45 (by decide) ?_
    refine W.lcmp hx hb dX11_two_46 ?_
    refine lv_if_ne (tgt := 54) hx hb dX11_two_47 (by decide) (fun c3 => ?_) (fun c3 => ?_)
    rotate_left 1
    · replace z := it ((lg_cmp_eq _ _).mp c3) z
      refine lv_lconst (v := (0 : Int64)) hx hb dX11_two_50 (by decide) ?_
      refine lv_goto (tgt := 59) hx hb dX11_two_51 (by decide) ?_
      exact c_lret' S hr hlk hH hS z dX11_two_59
    replace z := ie (fun q => c3 ((lg_cmp_eq _ _).mpr q)) z
    refine lv_lload_n hx hb dX11_two_54 rfl (lv_at hl 1 rfl) ?_
    refine lv_lload_n hx hb dX11_two_55 rfl (lv_at hl 2 rfl) ?_
    replace z := ob z
    obtain ⟨x4, zx4, z⟩ := z
    refine c_calll hH hS hRM (fun _ _ f1 f2 => va_runS (As := [.long a1, .long a3]) (rest := []) S (metJ12_floorDiv zx4) (va_cwS 2 hts (lw_S q1458 q1459 q187 q1460) rfl rfl rfl (by decide +kernel) ⟨(Nat.le_of_ble_eq_true rfl), (Nat.le_of_ble_eq_true rfl)⟩) (c_pre hG hH hS) rfl rfl hl.1 rfl (lv_room (Nat.le_of_ble_eq_true rfl)) dX11_two_56 ⟨f1, f2⟩) (fun H locs hH hS => ?_)
    exact c_lret' S hr hlk hH hS z dX11_two_59
  replace z := ie c5 z
  by_cases c6 : a0 = 45
  · replace z := it c6 z
    refine lv_tableIn (off := 35) (tgt := 36) hx hb dX11_two_1 (by rw [c6]; decide) (by rw [c6]; decide) (by rw [c6]; rfl) (by decide) ?_
    refine lv_lload_n hx hb dX11_two_36 rfl (lv_at hl 1 rfl) ?_
    refine lv_lload_n hx hb dX11_two_37 rfl (lv_at hl 2 rfl) ?_
    refine lv_lsub hx hb dX11_two_38 ?_
    exact c_lret' S hr hlk hH hS z dX11_two_39
  replace z := ie c6 z
  refine lv_tableOut (tgt := 44) hx hb dX11_two_1 (sw_out42_4 c1 c2 c5 c6) (by decide) ?_
  refine lv_lload_n hx hb dX11_two_44 rfl (lv_at hl 2 rfl) ?_
  refine lv_lconst (v := (0 : Int64)) hx hb dX11_two_45 (by decide) ?_
  refine W.lcmp hx hb dX11_two_46 ?_
  refine lv_if_ne (tgt := 54) hx hb dX11_two_47 (by decide) (fun c7 => ?_) (fun c7 => ?_)
  rotate_left 1
  · replace z := it ((lg_cmp_eq _ _).mp c7) z
    refine lv_lconst (v := (0 : Int64)) hx hb dX11_two_50 (by decide) ?_
    refine lv_goto (tgt := 59) hx hb dX11_two_51 (by decide) ?_
    exact c_lret' S hr hlk hH hS z dX11_two_59
  replace z := ie (fun q => c7 ((lg_cmp_eq _ _).mpr q)) z
  refine lv_lload_n hx hb dX11_two_54 rfl (lv_at hl 1 rfl) ?_
  refine lv_lload_n hx hb dX11_two_55 rfl (lv_at hl 2 rfl) ?_
  replace z := ob z
  obtain ⟨x8, zx8, z⟩ := z
  refine c_calll hH hS hRM (fun _ _ f1 f2 => va_runS (As := [.long a1, .long a3]) (rest := []) S (metJ12_floorDiv zx8) (va_cwS 2 hts (lw_S q1458 q1459 q187 q1460) rfl rfl rfl (by decide +kernel) ⟨(Nat.le_of_ble_eq_true rfl), (Nat.le_of_ble_eq_true rfl)⟩) (c_pre hG hH hS) rfl rfl hl.1 rfl (lv_room (Nat.le_of_ble_eq_true rfl)) dX11_two_56 ⟨f1, f2⟩) (fun H locs hH hS => ?_)
  exact c_lret' S hr hlk hH hS z dX11_two_59

set_option maxRecDepth 100000
/-! FourOnOne.lastHour()I -/
def fX0_lastHour_4 (K : KE) (h : HS) (a0 : Nat) : Nat → Int32 → Int32 → Option (Int32)
  | 0, _, _ => none
  | n + 1, a1, a2 =>
    (gI K h (some a0) 0 15).bind fun v1 =>
    if v1 ≤ a2 then
      some a1
    else
    (gR K h (some a0) 0 12).bind fun v3 =>
    (cI K h v3 0 a2).bind fun v4 =>
    (fJ12_max K h a1 v4).bind fun x5 =>
    fX0_lastHour_4 K h a0 n x5 (a2 + (1 : Int32))
def fX0_lastHour (K : KE) (h : HS) (a0 : Nat) : Option (Int32) :=
  fX0_lastHour_4 K h a0 FU (-1 : Int32) (0 : Int32)
set_option maxHeartbeats 4000000 in
theorem wX0_lastHour_4 {p : Program} {l : Launch} {e : Env} {s : State} {m : MethodId} {args : Array Value} {below : List Frame} {meth : Method} {c : Code} {A : Nat → Prop} {D : va_G} {ac : Nat → ClassId} {K : KE} {h : HS} {a0 : Nat} (S : CallFix p m c cX0_lastHour 3 s args lw_all RX0) (hr : meth.sig.returnType = some .int) (hlk : meth.locks = false) (hnm : meth.name = "lastHour") (hG : GK A D ac K s) (hRM : RM K s (rmC 2 21 K h)) {x : Int32} : ∀ (n : Nat) (a1 : Int32) (a2 : Int32), fX0_lastHour_4 K h a0 n a1 a2 = some x → cGo p l e (rmC 2 21 K h) s m args below meth c A D ac K (MQ below (cQi A D ac K (h, x)) args s (K.2.2.1 - h.2.1) (K.2.2.2 - h.2.2) A) 3 4 [(0, va_rf (some a0)), (1, .int a1), (2, .int a2)] [] h := by
  obtain ⟨hx, hb, hml, hown, hts⟩ := id S
  intro n
  induction n with
  | zero => intro a1 a2 z; cases z
  | succ n ih =>
    intro a1 a2 z H locs hH hS ls hl
    rw [fX0_lastHour_4] at z
    refine lv_iload_n hx hb dX0_lastHour_4 rfl (lv_at hl 2 rfl) ?_
    refine c_aload_n hx hb dX0_lastHour_5 rfl (lv_at hl 0 rfl) ?_
    replace z := ob z
    obtain ⟨v1, zv1, z⟩ := z
    obtain ⟨fsv1, yv1, zv1⟩ := gI_e zv1
    refine c_get S hG hH (ci := 0) (k := 15) rfl in_X0 (Nat.le_of_ble_eq_true rfl) q495 (fun _ y => y) yv1 zv1 dX0_lastHour_6 ?_
    refine lv_icmp_ge (tgt := 29) hx hb dX0_lastHour_9 (by decide) (fun c2 => ?_) (fun c2 => ?_)
    · replace z := it c2 z
      refine lv_iload_n hx hb dX0_lastHour_29 rfl (lv_at hl 1 rfl) ?_
      exact c_iret' S hr hlk rfl hH hS z dX0_lastHour_30
    replace z := ie c2 z
    refine lv_iload_n hx hb dX0_lastHour_12 rfl (lv_at hl 1 rfl) ?_
    refine c_aload_n hx hb dX0_lastHour_13 rfl (lv_at hl 0 rfl) ?_
    replace z := ob z
    obtain ⟨v3, zv3, z⟩ := z
    obtain ⟨fsv3, yv3, zv3⟩ := gR_e zv3
    refine c_get S hG hH (ci := 0) (k := 12) rfl in_X0 (Nat.le_of_ble_eq_true rfl) q492 (fun _ y => y) yv3 zv3 dX0_lastHour_14 ?_
    refine lv_iload_n hx hb dX0_lastHour_17 rfl (lv_at hl 2 rfl) ?_
    replace z := ob z
    obtain ⟨v4, zv4, z⟩ := z
    refine c_iald S hG hH zv4 dX0_lastHour_18 ?_
    replace z := ob z
    obtain ⟨x5, zx5, z⟩ := z
    refine c_calli hH hS hRM (fun _ _ f1 f2 => va_runS (As := [.int a1, .int v4]) (rest := []) S (metJ12_max zx5) (va_cwS 2 hts (lw_S q1600 q855 q187 q856) rfl rfl rfl (by decide +kernel) ⟨(Nat.le_of_ble_eq_true rfl), (Nat.le_of_ble_eq_true rfl)⟩) (c_pre hG hH hS) rfl rfl hl.1 rfl (lv_room (Nat.le_of_ble_eq_true rfl)) dX0_lastHour_19 ⟨f1, f2⟩) (fun H locs hH hS => ?_)
    refine lv_istore_n (lv' := [(1, .int x5), (0, va_rf (some a0)), (2, .int a2)]) hx hb dX0_lastHour_22 rfl hl (by decide) rfl (fun ls hl => ?_)
    refine lv_iinc (v := (a2 + (1 : Int32))) (lv' := [(2, .int (a2 + (1 : Int32))), (1, .int x5), (0, va_rf (some a0))]) hx hb dX0_lastHour_23 hl (k := 2) rfl rfl (by decide) rfl (fun ls hl => ?_)
    refine lv_goto (tgt := 4) hx hb dX0_lastHour_26 (by decide) ?_
    exact ih x5 (a2 + (1 : Int32)) z _ _ hH hS _ (lv_sub hl [2, 1, 0] rfl)
set_option maxHeartbeats 4000000 in
theorem metX0_lastHour {l : Launch} {A : Nat → Prop} {D : va_G} {ac : Nat → ClassId} {K : KE} {h : HS} {a0 : Nat} {x : Int32} (z : fX0_lastHour K h a0 = some x) : Met l yX0_lastHour (ws_ yX0_lastHour cX0_lastHour 3 (some .int)) (rmC 2 21 K h) (cP A D ac K h [va_rf (some a0)]) (cQi A D ac K (h, x)) (K.2.2.1 - h.2.1) (K.2.2.2 - h.2.2) A := by
  refine c_entry (plainFor_of_name (by decide)) (Nat.le_of_ble_eq_true rfl) ?_
  intro p e s m below meth c S hr hlk hnm hG hRM hH hS ls hl
  replace hl : lv_has ls 3 [(0, va_rf (some a0))] := hl
  replace hnm : meth.name = "lastHour" := hnm
  replace S : CallFix p m c cX0_lastHour 3 s _ lw_all RX0 := S
  obtain ⟨hx, hb, hml, hown, hts⟩ := id S
  unfold fX0_lastHour at z
  refine lv_iconst (v := (-1 : Int32)) hx hb dX0_lastHour_0 (by decide) ?_
  refine lv_istore_n (lv' := [(1, .int (-1 : Int32)), (0, va_rf (some a0))]) hx hb dX0_lastHour_1 rfl hl (by decide) rfl (fun ls hl => ?_)
  refine lv_iconst (v := (0 : Int32)) hx hb dX0_lastHour_2 (by decide) ?_
  refine lv_istore_n (lv' := [(2, .int (0 : Int32)), (1, .int (-1 : Int32)), (0, va_rf (some a0))]) hx hb dX0_lastHour_3 rfl hl (by decide) rfl (fun ls hl => ?_)
  exact wX0_lastHour_4 S hr hlk hnm hG hRM FU (-1 : Int32) (0 : Int32) z _ _ hH hS _ (lv_sub hl [2, 1, 0] rfl)
/-! FourOnOne.undo()Z -/
def fX0_undo (K : KE) (h : HS) (a0 : Nat) : Option (HS × Int32) :=
  (gI K h (some a0) 0 17).bind fun v1 =>
  if v1 = 0 then
    (rcv K h (some a0) 0).bind fun b11 =>
    (fX0_refuses K h b11 (4 : Int32)).bind fun x12 =>
    if x12.2 < 0 then
      some (x12.1, (0 : Int32))
    else
    some (x12.1, (1 : Int32))
  else
  (gI K h (some a0) 0 17).bind fun v3 =>
  (pV h (some a0) 0 17 (.int (v3 - (1 : Int32)))).bind fun h4 =>
  (gR K h4 (some a0) 0 9).bind fun v5 =>
  (gR K h4 (some a0) 0 16).bind fun v6 =>
  (gI K h4 (some a0) 0 17).bind fun v7 =>
  (cR K h4 v6 7 v7).bind fun v8 =>
  (rcv K h4 v5 5).bind fun b9 =>
  (fX5_copy K h4 b9 v8).bind fun x10 =>
  some (x10.1, (1 : Int32))
set_option maxHeartbeats 4000000 in
theorem metX0_undo {l : Launch} {A : Nat → Prop} {D : va_G} {ac : Nat → ClassId} {K : KE} {h : HS} {a0 : Nat} {x : HS × Int32} (z : fX0_undo K h a0 = some x) : Met l yX0_undo (ws_ yX0_undo cX0_undo 1 (some .boolean)) (rmC 2 23 K h) (cP A D ac K h [va_rf (some a0)]) (cQi A D ac K x) (K.2.2.1 - h.2.1) (K.2.2.2 - h.2.2) A := by
  refine c_entry (plainFor_of_name (by decide)) (Nat.le_of_ble_eq_true rfl) ?_
  intro p e s m below meth c S hr hlk hnm hG hRM hH hS ls hl
  replace hl : lv_has ls 1 [(0, va_rf (some a0))] := hl
  replace hnm : meth.name = "undo" := hnm
  replace S : CallFix p m c cX0_undo 1 s _ lw_all RX0 := S
  obtain ⟨hx, hb, hml, hown, hts⟩ := id S
  unfold fX0_undo at z
  refine c_aload_n hx hb dX0_undo_0 rfl (lv_at hl 0 rfl) ?_
  replace z := ob z
  obtain ⟨v1, zv1, z⟩ := z
  obtain ⟨fsv1, yv1, zv1⟩ := gI_e zv1
  refine c_get S hG hH (ci := 0) (k := 17) rfl in_X0 (Nat.le_of_ble_eq_true rfl) q497 (fun _ y => y) yv1 zv1 dX0_undo_1 ?_
  refine lv_if_ne (tgt := 21) hx hb dX0_undo_4 (by decide) (fun c2 => ?_) (fun c2 => ?_)
  rotate_left 1
  · replace z := it c2 z
    refine c_aload_n hx hb dX0_undo_7 rfl (lv_at hl 0 rfl) ?_
    refine lv_iconst (v := (4 : Int32)) hx hb dX0_undo_8 (by decide) ?_
    replace z := ob z
    obtain ⟨b11, zb11, z⟩ := z
    obtain ⟨yb11, zb11⟩ := rcv_e zb11
    replace z := ob z
    obtain ⟨x12, zx12, z⟩ := z
    refine c_calli hH hS hRM (fun _ _ f1 f2 => va_runV (b := b11) (As := [.int (4 : Int32)]) (rest := []) S (metX0_refuses zx12) (cwV 1 hts (lw_V q552 q554 qs1 q167 q555) rfl rfl rfl (by decide +kernel) ⟨(Nat.le_of_ble_eq_true rfl), (Nat.le_of_ble_eq_true rfl)⟩) (c_preV hG hH hS (ci := 0) rfl zb11) rfl rfl hl.1 (by rw [yb11]; rfl) (lv_room (Nat.le_of_ble_eq_true rfl)) dX0_undo_9 ⟨f1, f2⟩) (fun H locs hH hS => ?_)
    refine lv_if_lt (tgt := 19) hx hb dX0_undo_12 (by decide) (fun c13 => ?_) (fun c13 => ?_)
    · replace z := it c13 z
      refine lv_iconst (v := (0 : Int32)) hx hb dX0_undo_19 (by decide) ?_
      exact c_iret S hr hlk rfl hH hS z dX0_undo_20
    replace z := ie c13 z
    refine lv_iconst (v := (1 : Int32)) hx hb dX0_undo_15 (by decide) ?_
    refine lv_goto (tgt := 20) hx hb dX0_undo_16 (by decide) ?_
    exact c_iret S hr hlk rfl hH hS z dX0_undo_20
  replace z := ie c2 z
  refine c_aload_n hx hb dX0_undo_21 rfl (lv_at hl 0 rfl) ?_
  refine lv_dup hx hb dX0_undo_22 rfl ?_
  replace z := ob z
  obtain ⟨v3, zv3, z⟩ := z
  obtain ⟨fsv3, yv3, zv3⟩ := gI_e zv3
  refine c_get S hG hH (ci := 0) (k := 17) rfl in_X0 (Nat.le_of_ble_eq_true rfl) q497 (fun _ y => y) yv3 zv3 dX0_undo_23 ?_
  refine lv_iconst (v := (1 : Int32)) hx hb dX0_undo_26 (by decide) ?_
  refine lv_isub hx hb dX0_undo_27 ?_
  replace z := ob z
  obtain ⟨h4, zh4, z⟩ := z
  refine c_put S hG hH hS (ci := 0) (k := 17) rfl in_X0 tyX0 tyX0_ok nmX0 (Nat.le_of_ble_eq_true rfl) q497 (fun _ y => y) rfl (ty := .int) rfl rfl rfl zh4 dX0_undo_28 (fun H locs hH hS => ?_)
  refine c_aload_n hx hb dX0_undo_31 rfl (lv_at hl 0 rfl) ?_
  replace z := ob z
  obtain ⟨v5, zv5, z⟩ := z
  obtain ⟨fsv5, yv5, zv5⟩ := gR_e zv5
  refine c_get S hG hH (ci := 0) (k := 9) rfl in_X0 (Nat.le_of_ble_eq_true rfl) q489 (fun _ y => y) yv5 zv5 dX0_undo_32 ?_
  refine c_aload_n hx hb dX0_undo_35 rfl (lv_at hl 0 rfl) ?_
  replace z := ob z
  obtain ⟨v6, zv6, z⟩ := z
  obtain ⟨fsv6, yv6, zv6⟩ := gR_e zv6
  refine c_get S hG hH (ci := 0) (k := 16) rfl in_X0 (Nat.le_of_ble_eq_true rfl) q496 (fun _ y => y) yv6 zv6 dX0_undo_36 ?_
  refine c_aload_n hx hb dX0_undo_39 rfl (lv_at hl 0 rfl) ?_
  replace z := ob z
  obtain ⟨v7, zv7, z⟩ := z
  obtain ⟨fsv7, yv7, zv7⟩ := gI_e zv7
  refine c_get S hG hH (ci := 0) (k := 17) rfl in_X0 (Nat.le_of_ble_eq_true rfl) q497 (fun _ y => y) yv7 zv7 dX0_undo_40 ?_
  replace z := ob z
  obtain ⟨v8, zv8, z⟩ := z
  refine c_aald S hG hH 7 rfl rfl zv8 dX0_undo_43 ?_
  replace z := ob z
  obtain ⟨b9, zb9, z⟩ := z
  obtain ⟨yb9, zb9⟩ := rcv_e zb9
  replace z := ob z
  obtain ⟨x10, zx10, z⟩ := z
  refine c_callq hH hS hRM (fun _ _ f1 f2 => va_runV (b := b9) (As := [va_rf v8]) (rest := []) S (metX5_copy zx10) (cwV 1 hts (lw_V q1487 q1488 q1489 q178 q1490) rfl rfl rfl (by decide +kernel) ⟨(Nat.le_of_ble_eq_true rfl), (Nat.le_of_ble_eq_true rfl)⟩) (c_preV hG hH hS (ci := 5) rfl zb9) rfl rfl hl.1 (by rw [yb9]; rfl) (lv_room (Nat.le_of_ble_eq_true rfl)) dX0_undo_44 ⟨f1, f2⟩) (fun H locs hH hS => ?_)
  refine lv_pop hx hb dX0_undo_47 (ct_r _) ?_
  refine lv_iconst (v := (1 : Int32)) hx hb dX0_undo_48 (by decide) ?_
  exact c_iret S hr hlk rfl hH hS z dX0_undo_49
/-! FourOnOne.keeps()V -/
def fX0_keeps_62 (K : KE) (a0 : Nat) (h : HS) : Option (HS) :=
  (gR K h (some a0) 0 16).bind fun v1 =>
  (gI K h (some a0) 0 17).bind fun v2 =>
  (cR K h v1 7 v2).bind fun v3 =>
  (gR K h (some a0) 0 9).bind fun v4 =>
  (rcv K h v3 5).bind fun b5 =>
  (fX5_copy K h b5 v4).bind fun x6 =>
  (gI K x6.1 (some a0) 0 17).bind fun v7 =>
  (pV x6.1 (some a0) 0 17 (.int (v7 + (1 : Int32)))).bind fun h8 =>
  some h8
def fX0_keeps_18 (K : KE) (a0 : Nat) : Nat → HS → Option Nat → Int32 → Option (HS)
  | 0, _, _, _ => none
  | n + 1, h, a1, a2 =>
    if (20 : Int32) ≤ a2 then
      (gR K h (some a0) 0 16).bind fun v2 =>
      (sCR K h v2 7 (19 : Int32) a1).bind fun h3 =>
      (gI K h3 (some a0) 0 17).bind fun v4 =>
      (pV h3 (some a0) 0 17 (.int (v4 - (1 : Int32)))).bind fun h5 =>
      fX0_keeps_62 K a0 h5
    else
    (gR K h (some a0) 0 16).bind fun v6 =>
    (gR K h (some a0) 0 16).bind fun v7 =>
    (cR K h v7 7 a2).bind fun v8 =>
    (sCR K h v6 7 (a2 - (1 : Int32)) v8).bind fun h9 =>
    fX0_keeps_18 K a0 n h9 a1 (a2 + (1 : Int32))
def fX0_keeps (K : KE) (h : HS) (a0 : Nat) : Option (HS) :=
  (gI K h (some a0) 0 17).bind fun v1 =>
  if v1 = (20 : Int32) then
    (gR K h (some a0) 0 16).bind fun v3 =>
    (cR K h v3 7 (0 : Int32)).bind fun v4 =>
    fX0_keeps_18 K a0 FU h v4 (1 : Int32)
  else
  fX0_keeps_62 K a0 h
set_option maxHeartbeats 4000000 in
theorem wX0_keeps_62 {p : Program} {l : Launch} {e : Env} {s : State} {m : MethodId} {args : Array Value} {below : List Frame} {meth : Method} {c : Code} {A : Nat → Prop} {D : va_G} {ac : Nat → ClassId} {K : KE} {h0 : HS} {a0 : Nat} (S : CallFix p m c cX0_keeps 3 s args lw_all RX0) (hr : meth.sig.returnType = none) (hlk : meth.locks = false) (hnm : meth.name = "keeps") (hG : GK A D ac K s) (hRM : RM K s (rmC 2 23 K h0)) {x : HS} : ∀ (h : HS), fX0_keeps_62 K a0 h = some x → cGo p l e (rmC 2 23 K h0) s m args below meth c A D ac K (MQ below (cQv A D ac K x) args s (K.2.2.1 - h0.2.1) (K.2.2.2 - h0.2.2) A) 3 62 [(0, va_rf (some a0))] [] h := by
  obtain ⟨hx, hb, hml, hown, hts⟩ := id S
  intro h z H locs hH hS ls hl
  unfold fX0_keeps_62 at z
  refine c_aload_n hx hb dX0_keeps_62 rfl (lv_at hl 0 rfl) ?_
  replace z := ob z
  obtain ⟨v1, zv1, z⟩ := z
  obtain ⟨fsv1, yv1, zv1⟩ := gR_e zv1
  refine c_get S hG hH (ci := 0) (k := 16) rfl in_X0 (Nat.le_of_ble_eq_true rfl) q496 (fun _ y => y) yv1 zv1 dX0_keeps_63 ?_
  refine c_aload_n hx hb dX0_keeps_66 rfl (lv_at hl 0 rfl) ?_
  replace z := ob z
  obtain ⟨v2, zv2, z⟩ := z
  obtain ⟨fsv2, yv2, zv2⟩ := gI_e zv2
  refine c_get S hG hH (ci := 0) (k := 17) rfl in_X0 (Nat.le_of_ble_eq_true rfl) q497 (fun _ y => y) yv2 zv2 dX0_keeps_67 ?_
  replace z := ob z
  obtain ⟨v3, zv3, z⟩ := z
  refine c_aald S hG hH 7 rfl rfl zv3 dX0_keeps_70 ?_
  refine c_aload_n hx hb dX0_keeps_71 rfl (lv_at hl 0 rfl) ?_
  replace z := ob z
  obtain ⟨v4, zv4, z⟩ := z
  obtain ⟨fsv4, yv4, zv4⟩ := gR_e zv4
  refine c_get S hG hH (ci := 0) (k := 9) rfl in_X0 (Nat.le_of_ble_eq_true rfl) q489 (fun _ y => y) yv4 zv4 dX0_keeps_72 ?_
  replace z := ob z
  obtain ⟨b5, zb5, z⟩ := z
  obtain ⟨yb5, zb5⟩ := rcv_e zb5
  replace z := ob z
  obtain ⟨x6, zx6, z⟩ := z
  refine c_callq hH hS hRM (fun _ _ f1 f2 => va_runV (b := b5) (As := [va_rf v4]) (rest := []) S (metX5_copy zx6) (cwV 1 hts (lw_V q1487 q1488 q1489 q178 q1490) rfl rfl rfl (by decide +kernel) ⟨(Nat.le_of_ble_eq_true rfl), (Nat.le_of_ble_eq_true rfl)⟩) (c_preV hG hH hS (ci := 5) rfl zb5) rfl rfl hl.1 (by rw [yb5]; rfl) (lv_room (Nat.le_of_ble_eq_true rfl)) dX0_keeps_75 ⟨f1, f2⟩) (fun H locs hH hS => ?_)
  refine lv_pop hx hb dX0_keeps_78 (ct_r _) ?_
  refine c_aload_n hx hb dX0_keeps_79 rfl (lv_at hl 0 rfl) ?_
  refine lv_dup hx hb dX0_keeps_80 rfl ?_
  replace z := ob z
  obtain ⟨v7, zv7, z⟩ := z
  obtain ⟨fsv7, yv7, zv7⟩ := gI_e zv7
  refine c_get S hG hH (ci := 0) (k := 17) rfl in_X0 (Nat.le_of_ble_eq_true rfl) q497 (fun _ y => y) yv7 zv7 dX0_keeps_81 ?_
  refine lv_iconst (v := (1 : Int32)) hx hb dX0_keeps_84 (by decide) ?_
  refine lv_iadd hx hb dX0_keeps_85 ?_
  replace z := ob z
  obtain ⟨h8, zh8, z⟩ := z
  refine c_put S hG hH hS (ci := 0) (k := 17) rfl in_X0 tyX0 tyX0_ok nmX0 (Nat.le_of_ble_eq_true rfl) q497 (fun _ y => y) rfl (ty := .int) rfl rfl rfl zh8 dX0_keeps_86 (fun H locs hH hS => ?_)
  exact c_vret S hr hlk hH hS z dX0_keeps_89
set_option maxHeartbeats 4000000 in
theorem wX0_keeps_18 {p : Program} {l : Launch} {e : Env} {s : State} {m : MethodId} {args : Array Value} {below : List Frame} {meth : Method} {c : Code} {A : Nat → Prop} {D : va_G} {ac : Nat → ClassId} {K : KE} {h0 : HS} {a0 : Nat} (S : CallFix p m c cX0_keeps 3 s args lw_all RX0) (hr : meth.sig.returnType = none) (hlk : meth.locks = false) (hnm : meth.name = "keeps") (hG : GK A D ac K s) (hRM : RM K s (rmC 2 23 K h0)) {x : HS} : ∀ (n : Nat) (h : HS) (a1 : Option Nat) (a2 : Int32), fX0_keeps_18 K a0 n h a1 a2 = some x → cGo p l e (rmC 2 23 K h0) s m args below meth c A D ac K (MQ below (cQv A D ac K x) args s (K.2.2.1 - h0.2.1) (K.2.2.2 - h0.2.2) A) 3 18 [(0, va_rf (some a0)), (1, va_rf a1), (2, .int a2)] [] h := by
  obtain ⟨hx, hb, hml, hown, hts⟩ := id S
  intro n
  induction n with
  | zero => intro h a1 a2 z; cases z
  | succ n ih =>
    intro h a1 a2 z H locs hH hS ls hl
    rw [fX0_keeps_18] at z
    refine lv_iload_n hx hb dX0_keeps_18 rfl (lv_at hl 2 rfl) ?_
    refine lv_bipush (v := (20 : Int32)) hx hb dX0_keeps_19 (by decide) ?_
    refine lv_icmp_ge (tgt := 44) hx hb dX0_keeps_21 (by decide) (fun c1 => ?_) (fun c1 => ?_)
    · replace z := it c1 z
      refine c_aload_n hx hb dX0_keeps_44 rfl (lv_at hl 0 rfl) ?_
      replace z := ob z
      obtain ⟨v2, zv2, z⟩ := z
      obtain ⟨fsv2, yv2, zv2⟩ := gR_e zv2
      refine c_get S hG hH (ci := 0) (k := 16) rfl in_X0 (Nat.le_of_ble_eq_true rfl) q496 (fun _ y => y) yv2 zv2 dX0_keeps_45 ?_
      refine lv_bipush (v := (19 : Int32)) hx hb dX0_keeps_48 (by decide) ?_
      refine c_aload_n hx hb dX0_keeps_50 rfl (lv_at hl 1 rfl) ?_
      replace z := ob z
      obtain ⟨h3, zh3, z⟩ := z
      refine c_aast S hG hH hS 7 zh3 dX0_keeps_51 (fun H locs hH hS => ?_)
      refine c_aload_n hx hb dX0_keeps_52 rfl (lv_at hl 0 rfl) ?_
      refine lv_dup hx hb dX0_keeps_53 rfl ?_
      replace z := ob z
      obtain ⟨v4, zv4, z⟩ := z
      obtain ⟨fsv4, yv4, zv4⟩ := gI_e zv4
      refine c_get S hG hH (ci := 0) (k := 17) rfl in_X0 (Nat.le_of_ble_eq_true rfl) q497 (fun _ y => y) yv4 zv4 dX0_keeps_54 ?_
      refine lv_iconst (v := (1 : Int32)) hx hb dX0_keeps_57 (by decide) ?_
      refine lv_isub hx hb dX0_keeps_58 ?_
      replace z := ob z
      obtain ⟨h5, zh5, z⟩ := z
      refine c_put S hG hH hS (ci := 0) (k := 17) rfl in_X0 tyX0 tyX0_ok nmX0 (Nat.le_of_ble_eq_true rfl) q497 (fun _ y => y) rfl (ty := .int) rfl rfl rfl zh5 dX0_keeps_59 (fun H locs hH hS => ?_)
      exact wX0_keeps_62 S hr hlk hnm hG hRM h5 z _ _ hH hS _ (lv_sub hl [0] rfl)
    replace z := ie c1 z
    refine c_aload_n hx hb dX0_keeps_24 rfl (lv_at hl 0 rfl) ?_
    replace z := ob z
    obtain ⟨v6, zv6, z⟩ := z
    obtain ⟨fsv6, yv6, zv6⟩ := gR_e zv6
    refine c_get S hG hH (ci := 0) (k := 16) rfl in_X0 (Nat.le_of_ble_eq_true rfl) q496 (fun _ y => y) yv6 zv6 dX0_keeps_25 ?_
    refine lv_iload_n hx hb dX0_keeps_28 rfl (lv_at hl 2 rfl) ?_
    refine lv_iconst (v := (1 : Int32)) hx hb dX0_keeps_29 (by decide) ?_
    refine lv_isub hx hb dX0_keeps_30 ?_
    refine c_aload_n hx hb dX0_keeps_31 rfl (lv_at hl 0 rfl) ?_
    replace z := ob z
    obtain ⟨v7, zv7, z⟩ := z
    obtain ⟨fsv7, yv7, zv7⟩ := gR_e zv7
    refine c_get S hG hH (ci := 0) (k := 16) rfl in_X0 (Nat.le_of_ble_eq_true rfl) q496 (fun _ y => y) yv7 zv7 dX0_keeps_32 ?_
    refine lv_iload_n hx hb dX0_keeps_35 rfl (lv_at hl 2 rfl) ?_
    replace z := ob z
    obtain ⟨v8, zv8, z⟩ := z
    refine c_aald S hG hH 7 rfl rfl zv8 dX0_keeps_36 ?_
    replace z := ob z
    obtain ⟨h9, zh9, z⟩ := z
    refine c_aast S hG hH hS 7 zh9 dX0_keeps_37 (fun H locs hH hS => ?_)
    refine lv_iinc (v := (a2 + (1 : Int32))) (lv' := [(2, .int (a2 + (1 : Int32))), (0, va_rf (some a0)), (1, va_rf a1)]) hx hb dX0_keeps_38 hl (k := 2) rfl rfl (by decide) (by simp [List.filter, ct_r]) (fun ls hl => ?_)
    refine lv_goto (tgt := 18) hx hb dX0_keeps_41 (by decide) ?_
    exact ih h9 a1 (a2 + (1 : Int32)) z _ _ hH hS _ (lv_sub hl [1, 2, 0] rfl)
set_option maxHeartbeats 4000000 in
theorem metX0_keeps {l : Launch} {A : Nat → Prop} {D : va_G} {ac : Nat → ClassId} {K : KE} {h : HS} {a0 : Nat} {x : HS} (z : fX0_keeps K h a0 = some x) : Met l yX0_keeps (ws_ yX0_keeps cX0_keeps 3 (none)) (rmC 2 23 K h) (cP A D ac K h [va_rf (some a0)]) (cQv A D ac K x) (K.2.2.1 - h.2.1) (K.2.2.2 - h.2.2) A := by
  refine c_entry (plainFor_of_name (by decide)) (Nat.le_of_ble_eq_true rfl) ?_
  intro p e s m below meth c S hr hlk hnm hG hRM hH hS ls hl
  replace hl : lv_has ls 3 [(0, va_rf (some a0))] := hl
  replace hnm : meth.name = "keeps" := hnm
  replace S : CallFix p m c cX0_keeps 3 s _ lw_all RX0 := S
  obtain ⟨hx, hb, hml, hown, hts⟩ := id S
  unfold fX0_keeps at z
  refine c_aload_n hx hb dX0_keeps_0 rfl (lv_at hl 0 rfl) ?_
  replace z := ob z
  obtain ⟨v1, zv1, z⟩ := z
  obtain ⟨fsv1, yv1, zv1⟩ := gI_e zv1
  refine c_get S hG hH (ci := 0) (k := 17) rfl in_X0 (Nat.le_of_ble_eq_true rfl) q497 (fun _ y => y) yv1 zv1 dX0_keeps_1 ?_
  refine lv_bipush (v := (20 : Int32)) hx hb dX0_keeps_4 (by decide) ?_
  refine lv_icmp_ne (tgt := 62) hx hb dX0_keeps_6 (by decide) (fun c2 => ?_) (fun c2 => ?_)
  · replace z := ie c2 z
    exact wX0_keeps_62 S hr hlk hnm hG hRM h z _ _ hH hS _ (lv_sub hl [0] rfl)
  replace z := it c2 z
  refine c_aload_n hx hb dX0_keeps_9 rfl (lv_at hl 0 rfl) ?_
  replace z := ob z
  obtain ⟨v3, zv3, z⟩ := z
  obtain ⟨fsv3, yv3, zv3⟩ := gR_e zv3
  refine c_get S hG hH (ci := 0) (k := 16) rfl in_X0 (Nat.le_of_ble_eq_true rfl) q496 (fun _ y => y) yv3 zv3 dX0_keeps_10 ?_
  refine lv_iconst (v := (0 : Int32)) hx hb dX0_keeps_13 (by decide) ?_
  replace z := ob z
  obtain ⟨v4, zv4, z⟩ := z
  refine c_aald S hG hH 7 rfl rfl zv4 dX0_keeps_14 ?_
  refine c_astore_n (lv' := [(1, va_rf v4), (0, va_rf (some a0))]) hx hb dX0_keeps_15 rfl hl (by decide) rfl (fun ls hl => ?_)
  refine lv_iconst (v := (1 : Int32)) hx hb dX0_keeps_16 (by decide) ?_
  refine lv_istore_n (i := 2) (lv' := [(2, .int (1 : Int32)), (1, va_rf v4), (0, va_rf (some a0))]) hx hb dX0_keeps_17 rfl hl (by decide) (by simp [List.filter, ct_r, ct_i, ct_l]) (fun ls hl => ?_)
  exact wX0_keeps_18 S hr hlk hnm hG hRM FU h v4 (1 : Int32) z _ _ hH hS _ (lv_sub hl [2, 1, 0] rfl)
/-! FourOnOne.press(II)Z -/
def fX0_press_41 (K : KE) (a0 : Nat) (h : HS) : Option (HS × Int32) :=
  (rcv K h (some a0) 0).bind fun b1 =>
  (fX0_refuses K h b1 (2 : Int32)).bind fun x2 =>
  if x2.2 < 0 then
    some (x2.1, (0 : Int32))
  else
  some (x2.1, (1 : Int32))
def fX0_press_38 (K : KE) (a0 : Nat) (h : HS) (a1 : Int32) (t0 : Int32) (t1 : Int32) : Option (HS × Int32) :=
  if t0 = t1 then
    fX0_press_41 K a0 h
  else
  (rcv K h (some a0) 0).bind fun b2 =>
  (fX0_keeps K h b2).bind fun x3 =>
  (gR K x3 (some a0) 0 9).bind fun v4 =>
  (gI K x3 v4 5 1).bind fun v5 =>
  (pV x3 v4 5 1 (.int (v5 ^^^ ((1 : Int32) <<< (a1 &&& 31))))).bind fun h6 =>
  some (h6, (1 : Int32))
def fX0_press (K : KE) (h : HS) (a0 : Nat) (a1 : Int32) (a2 : Int32) : Option (HS × Int32) :=
  (rcv K h (some a0) 0).bind fun b1 =>
  (fX0_isPerson K h b1 a1).bind fun x2 =>
  if x2 = 0 then
    fX0_press_41 K a0 h
  else
  (fX0_is K h a2 (0 : Int32) (1 : Int32)).bind fun x4 =>
  if x4 = 0 then
    fX0_press_41 K a0 h
  else
  (gR K h (some a0) 0 9).bind fun v6 =>
  (gI K h v6 5 1).bind fun v7 =>
  (fX0_has K h v7 a1).bind fun x8 =>
  if a2 = (1 : Int32) then
    fX0_press_38 K a0 h a1 x8 (1 : Int32)
  else
  fX0_press_38 K a0 h a1 x8 (0 : Int32)
set_option maxHeartbeats 4000000 in
theorem wX0_press_41 {p : Program} {l : Launch} {e : Env} {s : State} {m : MethodId} {args : Array Value} {below : List Frame} {meth : Method} {c : Code} {A : Nat → Prop} {D : va_G} {ac : Nat → ClassId} {K : KE} {h0 : HS} {a0 : Nat} (S : CallFix p m c cX0_press 3 s args lw_all RX0) (hr : meth.sig.returnType = some .boolean) (hlk : meth.locks = false) (hnm : meth.name = "press") (hG : GK A D ac K s) (hRM : RM K s (rmC 4 61 K h0)) {x : HS × Int32} : ∀ (h : HS), fX0_press_41 K a0 h = some x → cGo p l e (rmC 4 61 K h0) s m args below meth c A D ac K (MQ below (cQi A D ac K x) args s (K.2.2.1 - h0.2.1) (K.2.2.2 - h0.2.2) A) 3 41 [(0, va_rf (some a0))] [] h := by
  obtain ⟨hx, hb, hml, hown, hts⟩ := id S
  intro h z H locs hH hS ls hl
  unfold fX0_press_41 at z
  refine c_aload_n hx hb dX0_press_41 rfl (lv_at hl 0 rfl) ?_
  refine lv_iconst (v := (2 : Int32)) hx hb dX0_press_42 (by decide) ?_
  replace z := ob z
  obtain ⟨b1, zb1, z⟩ := z
  obtain ⟨yb1, zb1⟩ := rcv_e zb1
  replace z := ob z
  obtain ⟨x2, zx2, z⟩ := z
  refine c_calli hH hS hRM (fun _ _ f1 f2 => va_runV (b := b1) (As := [.int (2 : Int32)]) (rest := []) S (metX0_refuses zx2) (cwV 1 hts (lw_V q552 q554 qs1 q167 q555) rfl rfl rfl (by decide +kernel) ⟨(Nat.le_of_ble_eq_true rfl), (Nat.le_of_ble_eq_true rfl)⟩) (c_preV hG hH hS (ci := 0) rfl zb1) rfl rfl hl.1 (by rw [yb1]; rfl) (lv_room (Nat.le_of_ble_eq_true rfl)) dX0_press_43 ⟨f1, f2⟩) (fun H locs hH hS => ?_)
  refine lv_if_lt (tgt := 53) hx hb dX0_press_46 (by decide) (fun c3 => ?_) (fun c3 => ?_)
  · replace z := it c3 z
    refine lv_iconst (v := (0 : Int32)) hx hb dX0_press_53 (by decide) ?_
    exact c_iret S hr hlk rfl hH hS z dX0_press_54
  replace z := ie c3 z
  refine lv_iconst (v := (1 : Int32)) hx hb dX0_press_49 (by decide) ?_
  refine lv_goto (tgt := 54) hx hb dX0_press_50 (by decide) ?_
  exact c_iret S hr hlk rfl hH hS z dX0_press_54
set_option maxHeartbeats 4000000 in
theorem wX0_press_38 {p : Program} {l : Launch} {e : Env} {s : State} {m : MethodId} {args : Array Value} {below : List Frame} {meth : Method} {c : Code} {A : Nat → Prop} {D : va_G} {ac : Nat → ClassId} {K : KE} {h0 : HS} {a0 : Nat} (S : CallFix p m c cX0_press 3 s args lw_all RX0) (hr : meth.sig.returnType = some .boolean) (hlk : meth.locks = false) (hnm : meth.name = "press") (hG : GK A D ac K s) (hRM : RM K s (rmC 4 61 K h0)) {x : HS × Int32} : ∀ (h : HS) (a1 : Int32) (t0 : Int32) (t1 : Int32), fX0_press_38 K a0 h a1 t0 t1 = some x → cGo p l e (rmC 4 61 K h0) s m args below meth c A D ac K (MQ below (cQi A D ac K x) args s (K.2.2.1 - h0.2.1) (K.2.2.2 - h0.2.2) A) 3 38 [(0, va_rf (some a0)), (1, .int a1)] [.int t1, .int t0] h := by
  obtain ⟨hx, hb, hml, hown, hts⟩ := id S
  intro h a1 t0 t1 z H locs hH hS ls hl
  unfold fX0_press_38 at z
  refine lv_icmp_ne (tgt := 55) hx hb dX0_press_38 (by decide) (fun c1 => ?_) (fun c1 => ?_)
  rotate_left 1
  · replace z := it c1 z
    exact wX0_press_41 S hr hlk hnm hG hRM h z _ _ hH hS _ (lv_sub hl [0] rfl)
  replace z := ie c1 z
  refine c_aload_n hx hb dX0_press_55 rfl (lv_at hl 0 rfl) ?_
  replace z := ob z
  obtain ⟨b2, zb2, z⟩ := z
  obtain ⟨yb2, zb2⟩ := rcv_e zb2
  replace z := ob z
  obtain ⟨x3, zx3, z⟩ := z
  refine c_callv hH hS hRM (fun _ _ f1 f2 => va_runV (b := b2) (As := []) (rest := []) S (metX0_keeps zx3) (cwV 0 hts (lw_V q1613 q1615 qs59 q167 q1616) rfl rfl rfl (by decide +kernel) ⟨(Nat.le_of_ble_eq_true rfl), (Nat.le_of_ble_eq_true rfl)⟩) (c_preV hG hH hS (ci := 0) rfl zb2) rfl rfl hl.1 (by rw [yb2]; rfl) (lv_room (Nat.le_of_ble_eq_true rfl)) dX0_press_56 ⟨f1, f2⟩) (fun H locs hH hS => ?_)
  refine c_aload_n hx hb dX0_press_59 rfl (lv_at hl 0 rfl) ?_
  replace z := ob z
  obtain ⟨v4, zv4, z⟩ := z
  obtain ⟨fsv4, yv4, zv4⟩ := gR_e zv4
  refine c_get S hG hH (ci := 0) (k := 9) rfl in_X0 (Nat.le_of_ble_eq_true rfl) q489 (fun _ y => y) yv4 zv4 dX0_press_60 ?_
  refine lv_dup hx hb dX0_press_63 (ct_r _) ?_
  replace z := ob z
  obtain ⟨v5, zv5, z⟩ := z
  obtain ⟨fsv5, yv5, zv5⟩ := gI_e zv5
  refine c_getN S hG hH (ci := 5) (k := 1) rfl in_X5 (Nat.le_of_ble_eq_true rfl) q432 (fun _ y => y) yv5 zv5 dX0_press_64 ?_
  refine lv_iconst (v := (1 : Int32)) hx hb dX0_press_67 (by decide) ?_
  refine lv_iload_n hx hb dX0_press_68 rfl (lv_at hl 1 rfl) ?_
  refine lv_ishl hx hb dX0_press_69 ?_
  refine lv_ixor hx hb dX0_press_70 ?_
  replace z := ob z
  obtain ⟨h6, zh6, z⟩ := z
  refine c_putN S hG hH hS (ci := 5) (k := 1) rfl in_X5 tyX5 tyX5_ok nmX5 (Nat.le_of_ble_eq_true rfl) q432 (fun _ y => y) rfl (ty := .int) rfl rfl rfl zh6 dX0_press_71 (fun H locs hH hS => ?_)
  refine lv_iconst (v := (1 : Int32)) hx hb dX0_press_74 (by decide) ?_
  exact c_iret S hr hlk rfl hH hS z dX0_press_75
set_option maxHeartbeats 4000000 in
theorem metX0_press {l : Launch} {A : Nat → Prop} {D : va_G} {ac : Nat → ClassId} {K : KE} {h : HS} {a0 : Nat} {a1 : Int32} {a2 : Int32} {x : HS × Int32} (z : fX0_press K h a0 a1 a2 = some x) : Met l yX0_press (ws_ yX0_press cX0_press 3 (some .boolean)) (rmC 4 61 K h) (cP A D ac K h [va_rf (some a0), .int a1, .int a2]) (cQi A D ac K x) (K.2.2.1 - h.2.1) (K.2.2.2 - h.2.2) A := by
  refine c_entry (plainFor_of_name (by decide)) (Nat.le_of_ble_eq_true rfl) ?_
  intro p e s m below meth c S hr hlk hnm hG hRM hH hS ls hl
  replace hl : lv_has ls 3 [(0, va_rf (some a0)), (1, .int a1), (2, .int a2)] := hl
  replace hnm : meth.name = "press" := hnm
  replace S : CallFix p m c cX0_press 3 s _ lw_all RX0 := S
  obtain ⟨hx, hb, hml, hown, hts⟩ := id S
  unfold fX0_press at z
  refine c_aload_n hx hb dX0_press_0 rfl (lv_at hl 0 rfl) ?_
  refine lv_iload_n hx hb dX0_press_1 rfl (lv_at hl 1 rfl) ?_
  replace z := ob z
  obtain ⟨b1, zb1, z⟩ := z
  obtain ⟨yb1, zb1⟩ := rcv_e zb1
  replace z := ob z
  obtain ⟨x2, zx2, z⟩ := z
  refine c_calli hH hS hRM (fun _ _ f1 f2 => va_runV (b := b1) (As := [.int a1]) (rest := []) S (metX0_isPerson zx2) (cwV 1 hts (lw_V q1340 q1342 qs42 q167 q1343) rfl rfl rfl (by decide +kernel) ⟨(Nat.le_of_ble_eq_true rfl), (Nat.le_of_ble_eq_true rfl)⟩) (c_preV hG hH hS (ci := 0) rfl zb1) rfl rfl hl.1 (by rw [yb1]; rfl) (lv_room (Nat.le_of_ble_eq_true rfl)) dX0_press_2 ⟨f1, f2⟩) (fun H locs hH hS => ?_)
  refine lv_if_eq (tgt := 41) hx hb dX0_press_5 (by decide) (fun c3 => ?_) (fun c3 => ?_)
  · replace z := it c3 z
    exact wX0_press_41 S hr hlk hnm hG hRM h z _ _ hH hS _ (lv_sub hl [0] rfl)
  replace z := ie c3 z
  refine lv_iload_n hx hb dX0_press_8 rfl (lv_at hl 2 rfl) ?_
  refine lv_iconst (v := (0 : Int32)) hx hb dX0_press_9 (by decide) ?_
  refine lv_iconst (v := (1 : Int32)) hx hb dX0_press_10 (by decide) ?_
  replace z := ob z
  obtain ⟨x4, zx4, z⟩ := z
  refine c_calli hH hS hRM (fun _ _ f1 f2 => va_runS (As := [.int a2, .int (0 : Int32), .int (1 : Int32)]) (rest := []) S (metX0_is zx4) (va_cwS 3 hts (lw_S q1296 q924 q167 q925) rfl rfl rfl (by decide +kernel) ⟨(Nat.le_of_ble_eq_true rfl), (Nat.le_of_ble_eq_true rfl)⟩) (c_pre hG hH hS) rfl rfl hl.1 rfl (lv_room (Nat.le_of_ble_eq_true rfl)) dX0_press_11 ⟨f1, f2⟩) (fun H locs hH hS => ?_)
  refine lv_if_eq (tgt := 41) hx hb dX0_press_14 (by decide) (fun c5 => ?_) (fun c5 => ?_)
  · replace z := it c5 z
    exact wX0_press_41 S hr hlk hnm hG hRM h z _ _ hH hS _ (lv_sub hl [0] rfl)
  replace z := ie c5 z
  refine c_aload_n hx hb dX0_press_17 rfl (lv_at hl 0 rfl) ?_
  replace z := ob z
  obtain ⟨v6, zv6, z⟩ := z
  obtain ⟨fsv6, yv6, zv6⟩ := gR_e zv6
  refine c_get S hG hH (ci := 0) (k := 9) rfl in_X0 (Nat.le_of_ble_eq_true rfl) q489 (fun _ y => y) yv6 zv6 dX0_press_18 ?_
  replace z := ob z
  obtain ⟨v7, zv7, z⟩ := z
  obtain ⟨fsv7, yv7, zv7⟩ := gI_e zv7
  refine c_getN S hG hH (ci := 5) (k := 1) rfl in_X5 (Nat.le_of_ble_eq_true rfl) q432 (fun _ y => y) yv7 zv7 dX0_press_21 ?_
  refine lv_iload_n hx hb dX0_press_24 rfl (lv_at hl 1 rfl) ?_
  replace z := ob z
  obtain ⟨x8, zx8, z⟩ := z
  refine c_calli hH hS hRM (fun _ _ f1 f2 => va_runS (As := [.int v7, .int a1]) (rest := []) S (metX0_has zx8) (va_cwS 2 hts (lw_S q1349 q975 q167 q976) rfl rfl rfl (by decide +kernel) ⟨(Nat.le_of_ble_eq_true rfl), (Nat.le_of_ble_eq_true rfl)⟩) (c_pre hG hH hS) rfl rfl hl.1 rfl (lv_room (Nat.le_of_ble_eq_true rfl)) dX0_press_25 ⟨f1, f2⟩) (fun H locs hH hS => ?_)
  refine lv_iload_n hx hb dX0_press_28 rfl (lv_at hl 2 rfl) ?_
  refine lv_iconst (v := (1 : Int32)) hx hb dX0_press_29 (by decide) ?_
  refine lv_icmp_ne (tgt := 37) hx hb dX0_press_30 (by decide) (fun c9 => ?_) (fun c9 => ?_)
  · replace z := ie c9 z
    refine lv_iconst (v := (0 : Int32)) hx hb dX0_press_37 (by decide) ?_
    exact wX0_press_38 S hr hlk hnm hG hRM h a1 x8 (0 : Int32) z _ _ hH hS _ (lv_sub hl [0, 1] rfl)
  replace z := it c9 z
  refine lv_iconst (v := (1 : Int32)) hx hb dX0_press_33 (by decide) ?_
  refine lv_goto (tgt := 38) hx hb dX0_press_34 (by decide) ?_
  exact wX0_press_38 S hr hlk hnm hG hRM h a1 x8 (1 : Int32) z _ _ hH hS _ (lv_sub hl [0, 1] rfl)
/-! FourOnOne.draw(I)I -/
def fX0_draw (K : KE) (h : HS) (a0 : Nat) (a1 : Int32) : Option (HS × Int32) :=
  (gL K h (some a0) 0 18).bind fun v1 =>
  (pV h (some a0) 0 18 (.long ((((1103515245 : Int64) * v1) + (12345 : Int64)) - (((1103515245 : Int64) * v1) + (12345 : Int64)) / (2147483648 : Int64) * (2147483648 : Int64)))).bind fun h2 =>
  (gL K h2 (some a0) 0 18).bind fun v3 =>
  (nzl a1.toInt64).bind fun d4 =>
  some (h2, ((v3 / (64 : Int64)) - (v3 / (64 : Int64)) / a1.toInt64 * a1.toInt64).toInt32)
set_option maxHeartbeats 4000000 in
theorem metX0_draw {l : Launch} {A : Nat → Prop} {D : va_G} {ac : Nat → ClassId} {K : KE} {h : HS} {a0 : Nat} {a1 : Int32} {x : HS × Int32} (z : fX0_draw K h a0 a1 = some x) : Met l yX0_draw (ws_ yX0_draw cX0_draw 2 (some .int)) (rmC 1 0 K h) (cP A D ac K h [va_rf (some a0), .int a1]) (cQi A D ac K x) (K.2.2.1 - h.2.1) (K.2.2.2 - h.2.2) A := by
  refine c_entry (plainFor_of_name (by decide)) (Nat.le_of_ble_eq_true rfl) ?_
  intro p e s m below meth c S hr hlk hnm hG hRM hH hS ls hl
  replace hl : lv_has ls 2 [(0, va_rf (some a0)), (1, .int a1)] := hl
  replace hnm : meth.name = "draw" := hnm
  replace S : CallFix p m c cX0_draw 2 s _ lw_all RX0 := S
  obtain ⟨hx, hb, hml, hown, hts⟩ := id S
  unfold fX0_draw at z
  refine c_aload_n hx hb dX0_draw_0 rfl (lv_at hl 0 rfl) ?_
  refine lv_ldc2 hx hb hown (hts _ q1633) dX0_draw_1 ?_
  refine c_aload_n hx hb dX0_draw_4 rfl (lv_at hl 0 rfl) ?_
  replace z := ob z
  obtain ⟨v1, zv1, z⟩ := z
  obtain ⟨fsv1, yv1, zv1⟩ := gL_e zv1
  refine c_get S hG hH (ci := 0) (k := 18) rfl in_X0 (Nat.le_of_ble_eq_true rfl) q498 (fun _ y => y) yv1 zv1 dX0_draw_5 ?_
  refine lv_lmul hx hb dX0_draw_8 ?_
  refine lv_ldc2 hx hb hown (hts _ q1634) dX0_draw_9 ?_
  refine lv_ladd hx hb dX0_draw_12 ?_
  refine lv_ldc2 hx hb hown (hts _ q1635) dX0_draw_13 ?_
  refine lv_lrem hx hb dX0_draw_16 (by decide) ?_
  replace z := ob z
  obtain ⟨h2, zh2, z⟩ := z
  refine c_put S hG hH hS (ci := 0) (k := 18) rfl in_X0 tyX0 tyX0_ok nmX0 (Nat.le_of_ble_eq_true rfl) q498 (fun _ y => y) rfl (ty := .long) rfl rfl rfl zh2 dX0_draw_17 (fun H locs hH hS => ?_)
  refine c_aload_n hx hb dX0_draw_20 rfl (lv_at hl 0 rfl) ?_
  replace z := ob z
  obtain ⟨v3, zv3, z⟩ := z
  obtain ⟨fsv3, yv3, zv3⟩ := gL_e zv3
  refine c_get S hG hH (ci := 0) (k := 18) rfl in_X0 (Nat.le_of_ble_eq_true rfl) q498 (fun _ y => y) yv3 zv3 dX0_draw_21 ?_
  refine lv_ldc2 hx hb hown (hts _ q1636) dX0_draw_24 ?_
  refine lv_ldiv hx hb dX0_draw_27 (by decide) ?_
  refine lv_iload_n hx hb dX0_draw_28 rfl (lv_at hl 1 rfl) ?_
  refine lv_i2l (v := a1.toInt64) hx hb dX0_draw_29 rfl ?_
  replace z := ob z
  obtain ⟨d4, zd4, z⟩ := z
  obtain ⟨zd4, -⟩ := nzl_e zd4
  refine lv_lrem hx hb dX0_draw_30 zd4 ?_
  refine lv_l2i (v := ((v3 / (64 : Int64)) - (v3 / (64 : Int64)) / a1.toInt64 * a1.toInt64).toInt32) hx hb dX0_draw_31 rfl ?_
  exact c_iret S hr hlk rfl hH hS z dX0_draw_32
/-! FourOnOne.seed(I)Z -/
def fX0_seed (K : KE) (h : HS) (a0 : Nat) (a1 : Int32) : Option (HS × Int32) :=
  if 0 ≤ a1 then
    (pV h (some a0) 0 18 (.long a1.toInt64)).bind fun h2 =>
    some (h2, (1 : Int32))
  else
  (rcv K h (some a0) 0).bind fun b3 =>
  (fX0_refuses K h b3 (5 : Int32)).bind fun x4 =>
  if x4.2 < 0 then
    some (x4.1, (0 : Int32))
  else
  some (x4.1, (1 : Int32))
set_option maxHeartbeats 4000000 in
theorem metX0_seed {l : Launch} {A : Nat → Prop} {D : va_G} {ac : Nat → ClassId} {K : KE} {h : HS} {a0 : Nat} {a1 : Int32} {x : HS × Int32} (z : fX0_seed K h a0 a1 = some x) : Met l yX0_seed (ws_ yX0_seed cX0_seed 2 (some .boolean)) (rmC 2 21 K h) (cP A D ac K h [va_rf (some a0), .int a1]) (cQi A D ac K x) (K.2.2.1 - h.2.1) (K.2.2.2 - h.2.2) A := by
  refine c_entry (plainFor_of_name (by decide)) (Nat.le_of_ble_eq_true rfl) ?_
  intro p e s m below meth c S hr hlk hnm hG hRM hH hS ls hl
  replace hl : lv_has ls 2 [(0, va_rf (some a0)), (1, .int a1)] := hl
  replace hnm : meth.name = "seed" := hnm
  replace S : CallFix p m c cX0_seed 2 s _ lw_all RX0 := S
  obtain ⟨hx, hb, hml, hown, hts⟩ := id S
  unfold fX0_seed at z
  refine lv_iload_n hx hb dX0_seed_0 rfl (lv_at hl 1 rfl) ?_
  refine lv_if_ge (tgt := 18) hx hb dX0_seed_1 (by decide) (fun c1 => ?_) (fun c1 => ?_)
  · replace z := it c1 z
    refine c_aload_n hx hb dX0_seed_18 rfl (lv_at hl 0 rfl) ?_
    refine lv_iload_n hx hb dX0_seed_19 rfl (lv_at hl 1 rfl) ?_
    refine lv_i2l (v := a1.toInt64) hx hb dX0_seed_20 rfl ?_
    replace z := ob z
    obtain ⟨h2, zh2, z⟩ := z
    refine c_put S hG hH hS (ci := 0) (k := 18) rfl in_X0 tyX0 tyX0_ok nmX0 (Nat.le_of_ble_eq_true rfl) q498 (fun _ y => y) rfl (ty := .long) rfl rfl rfl zh2 dX0_seed_21 (fun H locs hH hS => ?_)
    refine lv_iconst (v := (1 : Int32)) hx hb dX0_seed_24 (by decide) ?_
    exact c_iret S hr hlk rfl hH hS z dX0_seed_25
  replace z := ie c1 z
  refine c_aload_n hx hb dX0_seed_4 rfl (lv_at hl 0 rfl) ?_
  refine lv_iconst (v := (5 : Int32)) hx hb dX0_seed_5 (by decide) ?_
  replace z := ob z
  obtain ⟨b3, zb3, z⟩ := z
  obtain ⟨yb3, zb3⟩ := rcv_e zb3
  replace z := ob z
  obtain ⟨x4, zx4, z⟩ := z
  refine c_calli hH hS hRM (fun _ _ f1 f2 => va_runV (b := b3) (As := [.int (5 : Int32)]) (rest := []) S (metX0_refuses zx4) (cwV 1 hts (lw_V q552 q554 qs1 q167 q555) rfl rfl rfl (by decide +kernel) ⟨(Nat.le_of_ble_eq_true rfl), (Nat.le_of_ble_eq_true rfl)⟩) (c_preV hG hH hS (ci := 0) rfl zb3) rfl rfl hl.1 (by rw [yb3]; rfl) (lv_room (Nat.le_of_ble_eq_true rfl)) dX0_seed_6 ⟨f1, f2⟩) (fun H locs hH hS => ?_)
  refine lv_if_lt (tgt := 16) hx hb dX0_seed_9 (by decide) (fun c5 => ?_) (fun c5 => ?_)
  · replace z := it c5 z
    refine lv_iconst (v := (0 : Int32)) hx hb dX0_seed_16 (by decide) ?_
    exact c_iret S hr hlk rfl hH hS z dX0_seed_17
  replace z := ie c5 z
  refine lv_iconst (v := (1 : Int32)) hx hb dX0_seed_12 (by decide) ?_
  refine lv_goto (tgt := 17) hx hb dX0_seed_13 (by decide) ?_
  exact c_iret S hr hlk rfl hH hS z dX0_seed_17
/-! FourOnOne$Question.answer()J -/
def fX21_answer_15 (K : KE) (h : HS) (a0 : Nat) : Option (Int64) :=
  (gL K h (some a0) 18 3).bind fun v1 =>
  some v1
def fX21_answer (K : KE) (h : HS) (a0 : Nat) : Option (Int64) :=
  (gI K h (some a0) 18 4).bind fun v1 =>
  if v1 = 0 then
    (gI K h (some a0) 18 0).bind fun v3 =>
    if (2 : Int32) ≤ v3 then
      some (0 : Int64)
    else
    fX21_answer_15 K h a0
  else
  fX21_answer_15 K h a0
set_option maxHeartbeats 4000000 in
theorem wX21_answer_15 {p : Program} {l : Launch} {e : Env} {s : State} {m : MethodId} {args : Array Value} {below : List Frame} {meth : Method} {c : Code} {A : Nat → Prop} {D : va_G} {ac : Nat → ClassId} {K : KE} {h : HS} {a0 : Nat} (S : CallFix p m c cX21_answer 1 s args lw_all RX21) (hr : meth.sig.returnType = some .long) (hlk : meth.locks = false) (hnm : meth.name = "answer") (hG : GK A D ac K s) (hRM : RM K s (rmC 1 0 K h)) {x : Int64} : fX21_answer_15 K h a0 = some x → cGo p l e (rmC 1 0 K h) s m args below meth c A D ac K (MQ below (cQl A D ac K (h, x)) args s (K.2.2.1 - h.2.1) (K.2.2.2 - h.2.2) A) 1 15 [(0, va_rf (some a0))] [] h := by
  obtain ⟨hx, hb, hml, hown, hts⟩ := id S
  intro  z H locs hH hS ls hl
  unfold fX21_answer_15 at z
  refine c_aload_n hx hb dX21_answer_15 rfl (lv_at hl 0 rfl) ?_
  replace z := ob z
  obtain ⟨v1, zv1, z⟩ := z
  obtain ⟨fsv1, yv1, zv1⟩ := gL_e zv1
  refine c_get S hG hH (ci := 18) (k := 3) rfl in_X21 (Nat.le_of_ble_eq_true rfl) q1665 (fun _ y => y) yv1 zv1 dX21_answer_16 ?_
  refine lv_goto (tgt := 23) hx hb dX21_answer_19 (by decide) ?_
  exact c_lret' S hr hlk hH hS z dX21_answer_23
set_option maxHeartbeats 4000000 in
theorem metX21_answer {l : Launch} {A : Nat → Prop} {D : va_G} {ac : Nat → ClassId} {K : KE} {h : HS} {a0 : Nat} {x : Int64} (z : fX21_answer K h a0 = some x) : Met l yX21_answer (ws_ yX21_answer cX21_answer 1 (some .long)) (rmC 1 0 K h) (cP A D ac K h [va_rf (some a0)]) (cQl A D ac K (h, x)) (K.2.2.1 - h.2.1) (K.2.2.2 - h.2.2) A := by
  refine c_entry (plainFor_of_name (by decide)) (Nat.le_of_ble_eq_true rfl) ?_
  intro p e s m below meth c S hr hlk hnm hG hRM hH hS ls hl
  replace hl : lv_has ls 1 [(0, va_rf (some a0))] := hl
  replace hnm : meth.name = "answer" := hnm
  replace S : CallFix p m c cX21_answer 1 s _ lw_all RX21 := S
  obtain ⟨hx, hb, hml, hown, hts⟩ := id S
  unfold fX21_answer at z
  refine c_aload_n hx hb dX21_answer_0 rfl (lv_at hl 0 rfl) ?_
  replace z := ob z
  obtain ⟨v1, zv1, z⟩ := z
  obtain ⟨fsv1, yv1, zv1⟩ := gI_e zv1
  refine c_get S hG hH (ci := 18) (k := 4) rfl in_X21 (Nat.le_of_ble_eq_true rfl) q1666 (fun _ y => y) yv1 zv1 dX21_answer_1 ?_
  refine lv_if_ne (tgt := 15) hx hb dX21_answer_4 (by decide) (fun c2 => ?_) (fun c2 => ?_)
  · replace z := ie c2 z
    exact wX21_answer_15 S hr hlk hnm hG hRM z _ _ hH hS _ (lv_sub hl [0] rfl)
  replace z := it c2 z
  refine c_aload_n hx hb dX21_answer_7 rfl (lv_at hl 0 rfl) ?_
  replace z := ob z
  obtain ⟨v3, zv3, z⟩ := z
  obtain ⟨fsv3, yv3, zv3⟩ := gI_e zv3
  refine c_get S hG hH (ci := 18) (k := 0) rfl in_X21 (Nat.le_of_ble_eq_true rfl) q1662 (fun _ y => y) yv3 zv3 dX21_answer_8 ?_
  refine lv_iconst (v := (2 : Int32)) hx hb dX21_answer_11 (by decide) ?_
  refine lv_icmp_ge (tgt := 22) hx hb dX21_answer_12 (by decide) (fun c4 => ?_) (fun c4 => ?_)
  rotate_left 1
  · replace z := ie c4 z
    exact wX21_answer_15 S hr hlk hnm hG hRM z _ _ hH hS _ (lv_sub hl [0] rfl)
  replace z := it c4 z
  refine lv_lconst (v := (0 : Int64)) hx hb dX21_answer_22 (by decide) ?_
  exact c_lret' S hr hlk hH hS z dX21_answer_23
/-! FourOnOne$Question.<init>(ILFourOnOne$Test;LFourOnOne$Value;)V -/
def fX21_init (K : KE) (h : HS) (a0 : Nat) (a1 : Int32) (a2 : Option Nat) (a3 : Option Nat) : Option (HS) :=
  (pV h (some a0) 18 3 (.long (-1 : Int64))).bind fun h1 =>
  (pV h1 (some a0) 18 0 (.int a1)).bind fun h2 =>
  (pV h2 (some a0) 18 1 (va_rf a2)).bind fun h3 =>
  (pV h3 (some a0) 18 2 (va_rf a3)).bind fun h4 =>
  some h4
set_option maxHeartbeats 4000000 in
theorem metX21_init {l : Launch} {A : Nat → Prop} {D : va_G} {ac : Nat → ClassId} {K : KE} {h : HS} {a0 : Nat} {a1 : Int32} {a2 : Option Nat} {a3 : Option Nat} {x : HS} (z : fX21_init K h a0 a1 a2 a3 = some x) : Met l yX21_init (ws_ yX21_init cX21_init 4 (none)) (rmC 2 40 K h) (cP A D ac K h [va_rf (some a0), .int a1, va_rf a2, va_rf a3]) (cQv A D ac K x) (K.2.2.1 - h.2.1) (K.2.2.2 - h.2.2) A := by
  refine c_entry (plainFor_of_name (by decide)) (by simp [lg_sl, ct_r, ct_i, ct_l]) ?_
  intro p e s m below meth c S hr hlk hnm hG hRM hH hS ls hl
  replace hl : lv_has ls 4 [(0, va_rf (some a0)), (1, .int a1), (2, va_rf a2), (3, va_rf a3)] := (by simpa [lv_args, ct_r, ct_i, ct_l] using hl)
  replace hnm : meth.name = "<init>" := hnm
  replace S : CallFix p m c cX21_init 4 s _ lw_all RX21 := S
  obtain ⟨hx, hb, hml, hown, hts⟩ := id S
  unfold fX21_init at z
  refine c_aload_n hx hb dX21_init_0 rfl (lv_at hl 0 rfl) ?_
  refine c_obj S q1660 q213 q214 hl.1 (Nat.le_of_ble_eq_true rfl) (Nat.le_of_ble_eq_true rfl) (Nat.le_of_ble_eq_true rfl) dX21_init_1 ?_
  refine c_aload_n hx hb dX21_init_4 rfl (lv_at hl 0 rfl) ?_
  refine lv_ldc2 hx hb hown (hts _ q1661) dX21_init_5 ?_
  replace z := ob z
  obtain ⟨h1, zh1, z⟩ := z
  refine c_put S hG hH hS (ci := 18) (k := 3) rfl in_X21 tyX21 tyX21_ok nmX21 (Nat.le_of_ble_eq_true rfl) q1665 (fun _ y => y) rfl (ty := .long) rfl rfl rfl zh1 dX21_init_8 (fun H locs hH hS => ?_)
  refine c_aload_n hx hb dX21_init_11 rfl (lv_at hl 0 rfl) ?_
  refine lv_iload_n hx hb dX21_init_12 rfl (lv_at hl 1 rfl) ?_
  replace z := ob z
  obtain ⟨h2, zh2, z⟩ := z
  refine c_putF S hG hH hS (ci := 18) (k := 0) rfl in_X21 tyX21 tyX21_ok nmX21 (Nat.le_of_ble_eq_true rfl) q1662 (fun _ y => y) rfl hnm rfl (ty := .int) rfl rfl rfl zh2 dX21_init_13 (fun H locs hH hS => ?_)
  refine c_aload_n hx hb dX21_init_16 rfl (lv_at hl 0 rfl) ?_
  refine c_aload_n hx hb dX21_init_17 rfl (lv_at hl 2 rfl) ?_
  replace z := ob z
  obtain ⟨h3, zh3, z⟩ := z
  refine c_putF S hG hH hS (ci := 18) (k := 1) rfl in_X21 tyX21 tyX21_ok nmX21 (Nat.le_of_ble_eq_true rfl) q1663 (fun _ y => y) rfl hnm rfl (ty := .object "FourOnOne$Test") rfl (nr_o _) (ft_o _) zh3 dX21_init_18 (fun H locs hH hS => ?_)
  refine c_aload_n hx hb dX21_init_21 rfl (lv_at hl 0 rfl) ?_
  refine c_aload_n hx hb dX21_init_22 rfl (lv_at hl 3 rfl) ?_
  replace z := ob z
  obtain ⟨h4, zh4, z⟩ := z
  refine c_putF S hG hH hS (ci := 18) (k := 2) rfl in_X21 tyX21 tyX21_ok nmX21 (Nat.le_of_ble_eq_true rfl) q1664 (fun _ y => y) rfl hnm rfl (ty := .object "FourOnOne$Value") rfl (nr_o _) (ft_o _) zh4 dX21_init_23 (fun H locs hH hS => ?_)
  exact c_vret S hr hlk hH hS z dX21_init_26
/-! FourOnOne.check([BI)I -/
def fX0_check_5 (K : KE) (h : HS) : Nat → Option Nat → Int32 → Int32 → Int32 → Option (Int32)
  | 0, _, _, _, _ => none
  | n + 1, a0, a1, a2, a3 =>
    if a1 ≤ a3 then
      some a2
    else
    (cI K h a0 3 a3).bind fun v2 =>
    fX0_check_5 K h n a0 a1 ((((3 : Int32) * a2) + (v2 &&& (255 : Int32))) - (((3 : Int32) * a2) + (v2 &&& (255 : Int32))) / (251 : Int32) * (251 : Int32)) (a3 + (1 : Int32))
def fX0_check (K : KE) (h : HS) (a0 : Option Nat) (a1 : Int32) : Option (Int32) :=
  fX0_check_5 K h FU a0 a1 (53 : Int32) (0 : Int32)
set_option maxHeartbeats 4000000 in
theorem wX0_check_5 {p : Program} {l : Launch} {e : Env} {s : State} {m : MethodId} {args : Array Value} {below : List Frame} {meth : Method} {c : Code} {A : Nat → Prop} {D : va_G} {ac : Nat → ClassId} {K : KE} {h : HS} (S : CallFix p m c cX0_check 4 s args lw_all RX0) (hr : meth.sig.returnType = some .int) (hlk : meth.locks = false) (hnm : meth.name = "check") (hG : GK A D ac K s) (hRM : RM K s (rmC 1 0 K h)) {x : Int32} : ∀ (n : Nat) (a0 : Option Nat) (a1 : Int32) (a2 : Int32) (a3 : Int32), fX0_check_5 K h n a0 a1 a2 a3 = some x → cGo p l e (rmC 1 0 K h) s m args below meth c A D ac K (MQ below (cQi A D ac K (h, x)) args s (K.2.2.1 - h.2.1) (K.2.2.2 - h.2.2) A) 4 5 [(0, va_rf a0), (1, .int a1), (2, .int a2), (3, .int a3)] [] h := by
  obtain ⟨hx, hb, hml, hown, hts⟩ := id S
  intro n
  induction n with
  | zero => intro a0 a1 a2 a3 z; cases z
  | succ n ih =>
    intro a0 a1 a2 a3 z H locs hH hS ls hl
    rw [fX0_check_5] at z
    refine lv_iload_n hx hb dX0_check_5 rfl (lv_at hl 3 rfl) ?_
    refine lv_iload_n hx hb dX0_check_6 rfl (lv_at hl 1 rfl) ?_
    refine lv_icmp_ge (tgt := 32) hx hb dX0_check_7 (by decide) (fun c1 => ?_) (fun c1 => ?_)
    · replace z := it c1 z
      refine lv_iload_n hx hb dX0_check_32 rfl (lv_at hl 2 rfl) ?_
      exact c_iret' S hr hlk rfl hH hS z dX0_check_33
    replace z := ie c1 z
    refine lv_iconst (v := (3 : Int32)) hx hb dX0_check_10 (by decide) ?_
    refine lv_iload_n hx hb dX0_check_11 rfl (lv_at hl 2 rfl) ?_
    refine lv_imul hx hb dX0_check_12 ?_
    refine c_aload_n hx hb dX0_check_13 rfl (lv_at hl 0 rfl) ?_
    refine lv_iload_n hx hb dX0_check_14 rfl (lv_at hl 3 rfl) ?_
    replace z := ob z
    obtain ⟨v2, zv2, z⟩ := z
    refine c_bald S hG hH zv2 dX0_check_15 ?_
    refine lv_sipush (v := (255 : Int32)) hx hb dX0_check_16 (by decide) ?_
    refine lv_iand hx hb dX0_check_19 ?_
    refine lv_iadd hx hb dX0_check_20 ?_
    refine lv_sipush (v := (251 : Int32)) hx hb dX0_check_21 (by decide) ?_
    refine lv_irem hx hb dX0_check_24 (by decide) ?_
    refine lv_istore_n (lv' := [(2, .int ((((3 : Int32) * a2) + (v2 &&& (255 : Int32))) - (((3 : Int32) * a2) + (v2 &&& (255 : Int32))) / (251 : Int32) * (251 : Int32))), (0, va_rf a0), (1, .int a1), (3, .int a3)]) hx hb dX0_check_25 rfl hl (by decide) rfl (fun ls hl => ?_)
    refine lv_iinc (v := (a3 + (1 : Int32))) (lv' := [(3, .int (a3 + (1 : Int32))), (2, .int ((((3 : Int32) * a2) + (v2 &&& (255 : Int32))) - (((3 : Int32) * a2) + (v2 &&& (255 : Int32))) / (251 : Int32) * (251 : Int32))), (0, va_rf a0), (1, .int a1)]) hx hb dX0_check_26 hl (k := 3) rfl rfl (by decide) rfl (fun ls hl => ?_)
    refine lv_goto (tgt := 5) hx hb dX0_check_29 (by decide) ?_
    exact ih a0 a1 ((((3 : Int32) * a2) + (v2 &&& (255 : Int32))) - (((3 : Int32) * a2) + (v2 &&& (255 : Int32))) / (251 : Int32) * (251 : Int32)) (a3 + (1 : Int32)) z _ _ hH hS _ (lv_sub hl [2, 3, 1, 0] rfl)
set_option maxHeartbeats 4000000 in
theorem metX0_check {l : Launch} {A : Nat → Prop} {D : va_G} {ac : Nat → ClassId} {K : KE} {h : HS} {a0 : Option Nat} {a1 : Int32} {x : Int32} (z : fX0_check K h a0 a1 = some x) : Met l yX0_check (ws_ yX0_check cX0_check 4 (some .int)) (rmC 1 0 K h) (cP A D ac K h [va_rf a0, .int a1]) (cQi A D ac K (h, x)) (K.2.2.1 - h.2.1) (K.2.2.2 - h.2.2) A := by
  refine c_entry (plainFor_of_name (by decide)) (by simp [lg_sl, ct_r, ct_i, ct_l]) ?_
  intro p e s m below meth c S hr hlk hnm hG hRM hH hS ls hl
  replace hl : lv_has ls 4 [(0, va_rf a0), (1, .int a1)] := (by simpa [lv_args, ct_r, ct_i, ct_l] using hl)
  replace hnm : meth.name = "check" := hnm
  replace S : CallFix p m c cX0_check 4 s _ lw_all RX0 := S
  obtain ⟨hx, hb, hml, hown, hts⟩ := id S
  unfold fX0_check at z
  refine lv_bipush (v := (53 : Int32)) hx hb dX0_check_0 (by decide) ?_
  refine lv_istore_n (lv' := [(2, .int (53 : Int32)), (0, va_rf a0), (1, .int a1)]) hx hb dX0_check_2 rfl hl (by decide) rfl (fun ls hl => ?_)
  refine lv_iconst (v := (0 : Int32)) hx hb dX0_check_3 (by decide) ?_
  refine lv_istore_n (lv' := [(3, .int (0 : Int32)), (2, .int (53 : Int32)), (0, va_rf a0), (1, .int a1)]) hx hb dX0_check_4 rfl hl (by decide) rfl (fun ls hl => ?_)
  exact wX0_check_5 S hr hlk hnm hG hRM FU a0 a1 (53 : Int32) (0 : Int32) z _ _ hH hS _ (lv_sub hl [2, 3, 1, 0] rfl)
/-! FourOnOne.writes(II)V -/
def fX0_writes_8 (K : KE) (a0 : Nat) : Nat → HS → Int32 → Int32 → Option (HS)
  | 0, _, _, _ => none
  | n + 1, h, a1, a3 =>
    if a3 < 0 then
      some h
    else
    (gR K h (some a0) 0 20).bind fun v2 =>
    (gI K h (some a0) 0 21).bind fun v3 =>
    (pV h (some a0) 0 21 (.int (v3 + (1 : Int32)))).bind fun h4 =>
    (sC h4 v2 3 v3 (vp_nar .byte ((a1 >>> (a3 &&& 31)).toInt8.toInt32))).bind fun h5 =>
    fX0_writes_8 K a0 n h5 a1 (a3 + (-8 : Int32))
def fX0_writes (K : KE) (h : HS) (a0 : Nat) (a1 : Int32) (a2 : Int32) : Option (HS) :=
  fX0_writes_8 K a0 FU h a1 (((8 : Int32) * a2) - (8 : Int32))
set_option maxHeartbeats 4000000 in
theorem wX0_writes_8 {p : Program} {l : Launch} {e : Env} {s : State} {m : MethodId} {args : Array Value} {below : List Frame} {meth : Method} {c : Code} {A : Nat → Prop} {D : va_G} {ac : Nat → ClassId} {K : KE} {h0 : HS} {a0 : Nat} (S : CallFix p m c cX0_writes 4 s args lw_all RX0) (hr : meth.sig.returnType = none) (hlk : meth.locks = false) (hnm : meth.name = "writes") (hG : GK A D ac K s) (hRM : RM K s (rmC 1 0 K h0)) {x : HS} : ∀ (n : Nat) (h : HS) (a1 : Int32) (a3 : Int32), fX0_writes_8 K a0 n h a1 a3 = some x → cGo p l e (rmC 1 0 K h0) s m args below meth c A D ac K (MQ below (cQv A D ac K x) args s (K.2.2.1 - h0.2.1) (K.2.2.2 - h0.2.2) A) 4 8 [(0, va_rf (some a0)), (1, .int a1), (3, .int a3)] [] h := by
  obtain ⟨hx, hb, hml, hown, hts⟩ := id S
  intro n
  induction n with
  | zero => intro h a1 a3 z; cases z
  | succ n ih =>
    intro h a1 a3 z H locs hH hS ls hl
    rw [fX0_writes_8] at z
    refine lv_iload_n hx hb dX0_writes_8 rfl (lv_at hl 2 rfl) ?_
    refine lv_if_lt (tgt := 38) hx hb dX0_writes_9 (by decide) (fun c1 => ?_) (fun c1 => ?_)
    · replace z := it c1 z
      exact c_vret S hr hlk hH hS z dX0_writes_38
    replace z := ie c1 z
    refine c_aload_n hx hb dX0_writes_12 rfl (lv_at hl 0 rfl) ?_
    replace z := ob z
    obtain ⟨v2, zv2, z⟩ := z
    obtain ⟨fsv2, yv2, zv2⟩ := gR_e zv2
    refine c_get S hG hH (ci := 0) (k := 20) rfl in_X0 (Nat.le_of_ble_eq_true rfl) q500 (fun _ y => y) yv2 zv2 dX0_writes_13 ?_
    refine c_aload_n hx hb dX0_writes_16 rfl (lv_at hl 0 rfl) ?_
    refine lv_dup hx hb dX0_writes_17 rfl ?_
    replace z := ob z
    obtain ⟨v3, zv3, z⟩ := z
    obtain ⟨fsv3, yv3, zv3⟩ := gI_e zv3
    refine c_get S hG hH (ci := 0) (k := 21) rfl in_X0 (Nat.le_of_ble_eq_true rfl) q501 (fun _ y => y) yv3 zv3 dX0_writes_18 ?_
    refine lv_dup_x1 hx hb dX0_writes_21 rfl rfl ?_
    refine lv_iconst (v := (1 : Int32)) hx hb dX0_writes_22 (by decide) ?_
    refine lv_iadd hx hb dX0_writes_23 ?_
    replace z := ob z
    obtain ⟨h4, zh4, z⟩ := z
    refine c_put S hG hH hS (ci := 0) (k := 21) rfl in_X0 tyX0 tyX0_ok nmX0 (Nat.le_of_ble_eq_true rfl) q501 (fun _ y => y) rfl (ty := .int) rfl rfl rfl zh4 dX0_writes_24 (fun H locs hH hS => ?_)
    refine lv_iload_n hx hb dX0_writes_27 rfl (lv_at hl 1 rfl) ?_
    refine lv_iload_n hx hb dX0_writes_28 rfl (lv_at hl 2 rfl) ?_
    refine lv_ishr hx hb dX0_writes_29 ?_
    refine lv_i2b (v := (a1 >>> (a3 &&& 31)).toInt8.toInt32) hx hb dX0_writes_30 rfl ?_
    replace z := ob z
    obtain ⟨h5, zh5, z⟩ := z
    refine c_bast S hG hH hS zh5 dX0_writes_31 (fun H locs hH hS => ?_)
    refine lv_iinc (v := (a3 + (-8 : Int32))) (lv' := [(3, .int (a3 + (-8 : Int32))), (0, va_rf (some a0)), (1, .int a1)]) hx hb dX0_writes_32 hl (k := 2) rfl rfl (by decide) rfl (fun ls hl => ?_)
    refine lv_goto (tgt := 8) hx hb dX0_writes_35 (by decide) ?_
    exact ih h5 a1 (a3 + (-8 : Int32)) z _ _ hH hS _ (lv_sub hl [1, 2, 0] rfl)
set_option maxHeartbeats 4000000 in
theorem metX0_writes {l : Launch} {A : Nat → Prop} {D : va_G} {ac : Nat → ClassId} {K : KE} {h : HS} {a0 : Nat} {a1 : Int32} {a2 : Int32} {x : HS} (z : fX0_writes K h a0 a1 a2 = some x) : Met l yX0_writes (ws_ yX0_writes cX0_writes 4 (none)) (rmC 1 0 K h) (cP A D ac K h [va_rf (some a0), .int a1, .int a2]) (cQv A D ac K x) (K.2.2.1 - h.2.1) (K.2.2.2 - h.2.2) A := by
  refine c_entry (plainFor_of_name (by decide)) (Nat.le_of_ble_eq_true rfl) ?_
  intro p e s m below meth c S hr hlk hnm hG hRM hH hS ls hl
  replace hl : lv_has ls 4 [(0, va_rf (some a0)), (1, .int a1), (2, .int a2)] := hl
  replace hnm : meth.name = "writes" := hnm
  replace S : CallFix p m c cX0_writes 4 s _ lw_all RX0 := S
  obtain ⟨hx, hb, hml, hown, hts⟩ := id S
  unfold fX0_writes at z
  refine lv_bipush (v := (8 : Int32)) hx hb dX0_writes_0 (by decide) ?_
  refine lv_iload_n hx hb dX0_writes_2 rfl (lv_at hl 2 rfl) ?_
  refine lv_imul hx hb dX0_writes_3 ?_
  refine lv_bipush (v := (8 : Int32)) hx hb dX0_writes_4 (by decide) ?_
  refine lv_isub hx hb dX0_writes_6 ?_
  refine lv_istore_n (lv' := [(3, .int (((8 : Int32) * a2) - (8 : Int32))), (0, va_rf (some a0)), (1, .int a1), (2, .int a2)]) hx hb dX0_writes_7 rfl hl (by decide) rfl (fun ls hl => ?_)
  exact wX0_writes_8 S hr hlk hnm hG hRM FU h a1 (((8 : Int32) * a2) - (8 : Int32)) z _ _ hH hS _ (lv_sub hl [1, 2, 0] rfl)
/-! FourOnOne.image()I -/
def fX0_image_79 (K : KE) (a0 : Nat) (k37 : HS → Int32 → Option (HS × Int32)) : Nat → HS → Int32 → Int32 → Option (HS × Int32)
  | 0, _, _, _ => none
  | n + 1, h, a1, a2 =>
    (rcv K h (some a0) 0).bind fun b1 =>
    (fX0_films K h b1).bind fun x2 =>
    if x2 ≤ a2 then
      k37 h (a1 + (1 : Int32))
    else
    (gR K h (some a0) 0 9).bind fun v4 =>
    (gR K h v4 5 4).bind fun v5 =>
    (cR K h v5 8 a1).bind fun v6 =>
    (cI K h v6 0 a2).bind fun v7 =>
    (rcv K h (some a0) 0).bind fun b8 =>
    (fX0_writes K h b8 v7 (1 : Int32)).bind fun x9 =>
    fX0_image_79 K a0 k37 n x9 a1 (a2 + (1 : Int32))
def fX0_image_47 (K : KE) (a0 : Nat) (k37 : HS → Int32 → Option (HS × Int32)) : Nat → HS → Int32 → Int32 → Option (HS × Int32)
  | 0, _, _, _ => none
  | n + 1, h, a1, a2 =>
    (rcv K h (some a0) 0).bind fun b1 =>
    (fX0_kinds K h b1).bind fun x2 =>
    if x2 ≤ a2 then
      fX0_image_79 K a0 k37 FU h a1 (0 : Int32)
    else
    (gR K h (some a0) 0 9).bind fun v4 =>
    (gR K h v4 5 3).bind fun v5 =>
    (cR K h v5 8 a1).bind fun v6 =>
    (cI K h v6 0 a2).bind fun v7 =>
    (rcv K h (some a0) 0).bind fun b8 =>
    (fX0_writes K h b8 v7 (2 : Int32)).bind fun x9 =>
    fX0_image_47 K a0 k37 n x9 a1 (a2 + (1 : Int32))
def fX0_image_145 (K : KE) (a0 : Nat) (k117 : HS → Int32 → Option (HS × Int32)) (h : HS) (a1 : Int32) (t1 : Int32) : Option (HS × Int32) :=
  (rcv K h (some a0) 0).bind fun b1 =>
  (fX0_writes K h b1 t1 (1 : Int32)).bind fun x2 =>
  (gR K x2 (some a0) 0 9).bind fun v3 =>
  (gR K x2 v3 5 5).bind fun v4 =>
  (cI K x2 v4 0 a1).bind fun v5 =>
  (rcv K x2 (some a0) 0).bind fun b6 =>
  (fX0_writes K x2 b6 v5 (2 : Int32)).bind fun x7 =>
  k117 x7 (a1 + (1 : Int32))
def fX0_image_117 (K : KE) (a0 : Nat) : Nat → HS → Int32 → Option (HS × Int32)
  | 0, _, _ => none
  | n + 1, h, a1 =>
    (rcv K h (some a0) 0).bind fun b1 =>
    (fX0_people K h b1).bind fun x2 =>
    if x2 ≤ a1 then
      (gR K h (some a0) 0 20).bind fun v4 =>
      (gI K h (some a0) 0 21).bind fun v5 =>
      (fX0_check K h v4 v5).bind fun x6 =>
      (rcv K h (some a0) 0).bind fun b7 =>
      (fX0_writes K h b7 x6 (1 : Int32)).bind fun x8 =>
      (gI K x8 (some a0) 0 21).bind fun v9 =>
      some (x8, v9)
    else
    (gR K h (some a0) 0 9).bind fun v10 =>
    (gI K h v10 5 1).bind fun v11 =>
    (fX0_has K h v11 a1).bind fun x12 =>
    if x12 = 0 then
      fX0_image_145 K a0 (fun h' b1 => fX0_image_117 K a0 n h' b1) h a1 (0 : Int32)
    else
    fX0_image_145 K a0 (fun h' b1 => fX0_image_117 K a0 n h' b1) h a1 (1 : Int32)
def fX0_image_37 (K : KE) (a0 : Nat) : Nat → HS → Int32 → Option (HS × Int32)
  | 0, _, _ => none
  | n + 1, h, a1 =>
    (rcv K h (some a0) 0).bind fun b1 =>
    (fX0_people K h b1).bind fun x2 =>
    if x2 < a1 then
      fX0_image_117 K a0 FU h (0 : Int32)
    else
    fX0_image_47 K a0 (fun h' b1 => fX0_image_37 K a0 n h' b1) FU h a1 (0 : Int32)
def fX0_image (K : KE) (h : HS) (a0 : Nat) : Option (HS × Int32) :=
  (pV h (some a0) 0 21 (.int (0 : Int32))).bind fun h1 =>
  (gR K h1 (some a0) 0 9).bind fun v2 =>
  (gI K h1 v2 5 0).bind fun v3 =>
  (rcv K h1 (some a0) 0).bind fun b4 =>
  (fX0_writes K h1 b4 (v3 / (24 : Int32)) (2 : Int32)).bind fun x5 =>
  (gR K x5 (some a0) 0 9).bind fun v6 =>
  (gI K x5 v6 5 0).bind fun v7 =>
  (rcv K x5 (some a0) 0).bind fun b8 =>
  (fX0_writes K x5 b8 (v7 - v7 / (24 : Int32) * (24 : Int32)) (1 : Int32)).bind fun x9 =>
  fX0_image_37 K a0 FU x9 (0 : Int32)
set_option maxHeartbeats 4000000 in
theorem wX0_image_79 {p : Program} {l : Launch} {e : Env} {s : State} {m : MethodId} {args : Array Value} {below : List Frame} {meth : Method} {c : Code} {A : Nat → Prop} {D : va_G} {ac : Nat → ClassId} {K : KE} {h0 : HS} {a0 : Nat} (S : CallFix p m c cX0_image 3 s args lw_all RX0) (hr : meth.sig.returnType = some .int) (hlk : meth.locks = false) (hnm : meth.name = "image") (hG : GK A D ac K s) (hRM : RM K s (rmC 3 40 K h0)) {x : HS × Int32} {k37 : HS → Int32 → Option (HS × Int32)} (hk37 : ∀ h a1, k37 h a1 = some x → cGo p l e (rmC 3 40 K h0) s m args below meth c A D ac K (MQ below (cQi A D ac K x) args s (K.2.2.1 - h0.2.1) (K.2.2.2 - h0.2.2) A) 3 37 [(0, va_rf (some a0)), (1, .int a1)] [] h) : ∀ (n : Nat) (h : HS) (a1 : Int32) (a2 : Int32), fX0_image_79 K a0 k37 n h a1 a2 = some x → cGo p l e (rmC 3 40 K h0) s m args below meth c A D ac K (MQ below (cQi A D ac K x) args s (K.2.2.1 - h0.2.1) (K.2.2.2 - h0.2.2) A) 3 79 [(0, va_rf (some a0)), (1, .int a1), (2, .int a2)] [] h := by
  obtain ⟨hx, hb, hml, hown, hts⟩ := id S
  intro n
  induction n with
  | zero => intro h a1 a2 z; cases z
  | succ n ih =>
    intro h a1 a2 z H locs hH hS ls hl
    rw [fX0_image_79] at z
    refine lv_iload_n hx hb dX0_image_79 rfl (lv_at hl 2 rfl) ?_
    refine c_aload_n hx hb dX0_image_80 rfl (lv_at hl 0 rfl) ?_
    replace z := ob z
    obtain ⟨b1, zb1, z⟩ := z
    obtain ⟨yb1, zb1⟩ := rcv_e zb1
    replace z := ob z
    obtain ⟨x2, zx2, z⟩ := z
    refine c_calli hH hS hRM (fun _ _ f1 f2 => va_runV (b := b1) (As := []) (rest := [.int a2]) S (metX0_films zx2) (cwV 0 hts (lw_V q1274 q1276 qs36 q167 q1277) rfl rfl rfl (by decide +kernel) ⟨(Nat.le_of_ble_eq_true rfl), (Nat.le_of_ble_eq_true rfl)⟩) (c_preV hG hH hS (ci := 0) rfl zb1) rfl rfl hl.1 (by rw [yb1]; rfl) (lv_room (Nat.le_of_ble_eq_true rfl)) dX0_image_81 ⟨f1, f2⟩) (fun H locs hH hS => ?_)
    refine lv_icmp_ge (tgt := 109) hx hb dX0_image_84 (by decide) (fun c3 => ?_) (fun c3 => ?_)
    · replace z := it c3 z
      refine lv_iinc (v := (a1 + (1 : Int32))) (lv' := [(1, .int (a1 + (1 : Int32))), (0, va_rf (some a0)), (2, .int a2)]) hx hb dX0_image_109 hl (k := 1) rfl rfl (by decide) rfl (fun ls hl => ?_)
      refine lv_goto (tgt := 37) hx hb dX0_image_112 (by decide) ?_
      exact hk37 h (a1 + (1 : Int32)) z _ _ hH hS _ (lv_sub hl [1, 0] rfl)
    replace z := ie c3 z
    refine c_aload_n hx hb dX0_image_87 rfl (lv_at hl 0 rfl) ?_
    refine c_aload_n hx hb dX0_image_88 rfl (lv_at hl 0 rfl) ?_
    replace z := ob z
    obtain ⟨v4, zv4, z⟩ := z
    obtain ⟨fsv4, yv4, zv4⟩ := gR_e zv4
    refine c_get S hG hH (ci := 0) (k := 9) rfl in_X0 (Nat.le_of_ble_eq_true rfl) q489 (fun _ y => y) yv4 zv4 dX0_image_89 ?_
    replace z := ob z
    obtain ⟨v5, zv5, z⟩ := z
    obtain ⟨fsv5, yv5, zv5⟩ := gR_e zv5
    refine c_getN S hG hH (ci := 5) (k := 4) rfl in_X5 (Nat.le_of_ble_eq_true rfl) q438 (fun _ y => y) yv5 zv5 dX0_image_92 ?_
    refine lv_iload_n hx hb dX0_image_95 rfl (lv_at hl 1 rfl) ?_
    replace z := ob z
    obtain ⟨v6, zv6, z⟩ := z
    refine c_aald S hG hH 8 rfl rfl zv6 dX0_image_96 ?_
    refine lv_iload_n hx hb dX0_image_97 rfl (lv_at hl 2 rfl) ?_
    replace z := ob z
    obtain ⟨v7, zv7, z⟩ := z
    refine c_iald S hG hH zv7 dX0_image_98 ?_
    refine lv_iconst (v := (1 : Int32)) hx hb dX0_image_99 (by decide) ?_
    replace z := ob z
    obtain ⟨b8, zb8, z⟩ := z
    obtain ⟨yb8, zb8⟩ := rcv_e zb8
    replace z := ob z
    obtain ⟨x9, zx9, z⟩ := z
    refine c_callv hH hS hRM (fun _ _ f1 f2 => va_runV (b := b8) (As := [.int v7, .int (1 : Int32)]) (rest := []) S (metX0_writes zx9) (cwV 2 hts (lw_V q1695 q1697 qs61 q167 q1698) rfl rfl rfl (by decide +kernel) ⟨(Nat.le_of_ble_eq_true rfl), (Nat.le_of_ble_eq_true rfl)⟩) (c_preV hG hH hS (ci := 0) rfl zb8) rfl rfl hl.1 (by rw [yb8]; rfl) (lv_room (Nat.le_of_ble_eq_true rfl)) dX0_image_100 ⟨f1, f2⟩) (fun H locs hH hS => ?_)
    refine lv_iinc (v := (a2 + (1 : Int32))) (lv' := [(2, .int (a2 + (1 : Int32))), (0, va_rf (some a0)), (1, .int a1)]) hx hb dX0_image_103 hl (k := 2) rfl rfl (by decide) rfl (fun ls hl => ?_)
    refine lv_goto (tgt := 79) hx hb dX0_image_106 (by decide) ?_
    exact ih x9 a1 (a2 + (1 : Int32)) z _ _ hH hS _ (lv_sub hl [1, 2, 0] rfl)
set_option maxHeartbeats 4000000 in
theorem wX0_image_47 {p : Program} {l : Launch} {e : Env} {s : State} {m : MethodId} {args : Array Value} {below : List Frame} {meth : Method} {c : Code} {A : Nat → Prop} {D : va_G} {ac : Nat → ClassId} {K : KE} {h0 : HS} {a0 : Nat} (S : CallFix p m c cX0_image 3 s args lw_all RX0) (hr : meth.sig.returnType = some .int) (hlk : meth.locks = false) (hnm : meth.name = "image") (hG : GK A D ac K s) (hRM : RM K s (rmC 3 40 K h0)) {x : HS × Int32} {k37 : HS → Int32 → Option (HS × Int32)} (hk37 : ∀ h a1, k37 h a1 = some x → cGo p l e (rmC 3 40 K h0) s m args below meth c A D ac K (MQ below (cQi A D ac K x) args s (K.2.2.1 - h0.2.1) (K.2.2.2 - h0.2.2) A) 3 37 [(0, va_rf (some a0)), (1, .int a1)] [] h) : ∀ (n : Nat) (h : HS) (a1 : Int32) (a2 : Int32), fX0_image_47 K a0 k37 n h a1 a2 = some x → cGo p l e (rmC 3 40 K h0) s m args below meth c A D ac K (MQ below (cQi A D ac K x) args s (K.2.2.1 - h0.2.1) (K.2.2.2 - h0.2.2) A) 3 47 [(0, va_rf (some a0)), (1, .int a1), (2, .int a2)] [] h := by
  obtain ⟨hx, hb, hml, hown, hts⟩ := id S
  intro n
  induction n with
  | zero => intro h a1 a2 z; cases z
  | succ n ih =>
    intro h a1 a2 z H locs hH hS ls hl
    rw [fX0_image_47] at z
    refine lv_iload_n hx hb dX0_image_47 rfl (lv_at hl 2 rfl) ?_
    refine c_aload_n hx hb dX0_image_48 rfl (lv_at hl 0 rfl) ?_
    replace z := ob z
    obtain ⟨b1, zb1, z⟩ := z
    obtain ⟨yb1, zb1⟩ := rcv_e zb1
    replace z := ob z
    obtain ⟨x2, zx2, z⟩ := z
    refine c_calli hH hS hRM (fun _ _ f1 f2 => va_runV (b := b1) (As := []) (rest := [.int a2]) S (metX0_kinds zx2) (cwV 0 hts (lw_V q1268 q1270 qs35 q167 q1271) rfl rfl rfl (by decide +kernel) ⟨(Nat.le_of_ble_eq_true rfl), (Nat.le_of_ble_eq_true rfl)⟩) (c_preV hG hH hS (ci := 0) rfl zb1) rfl rfl hl.1 (by rw [yb1]; rfl) (lv_room (Nat.le_of_ble_eq_true rfl)) dX0_image_49 ⟨f1, f2⟩) (fun H locs hH hS => ?_)
    refine lv_icmp_ge (tgt := 77) hx hb dX0_image_52 (by decide) (fun c3 => ?_) (fun c3 => ?_)
    · replace z := it c3 z
      refine lv_iconst (v := (0 : Int32)) hx hb dX0_image_77 (by decide) ?_
      refine lv_istore_n (lv' := [(2, .int (0 : Int32)), (0, va_rf (some a0)), (1, .int a1)]) hx hb dX0_image_78 rfl hl (by decide) rfl (fun ls hl => ?_)
      exact wX0_image_79 S hr hlk hnm hG hRM hk37 FU h a1 (0 : Int32) z _ _ hH hS _ (lv_sub hl [1, 2, 0] rfl)
    replace z := ie c3 z
    refine c_aload_n hx hb dX0_image_55 rfl (lv_at hl 0 rfl) ?_
    refine c_aload_n hx hb dX0_image_56 rfl (lv_at hl 0 rfl) ?_
    replace z := ob z
    obtain ⟨v4, zv4, z⟩ := z
    obtain ⟨fsv4, yv4, zv4⟩ := gR_e zv4
    refine c_get S hG hH (ci := 0) (k := 9) rfl in_X0 (Nat.le_of_ble_eq_true rfl) q489 (fun _ y => y) yv4 zv4 dX0_image_57 ?_
    replace z := ob z
    obtain ⟨v5, zv5, z⟩ := z
    obtain ⟨fsv5, yv5, zv5⟩ := gR_e zv5
    refine c_getN S hG hH (ci := 5) (k := 3) rfl in_X5 (Nat.le_of_ble_eq_true rfl) q436 (fun _ y => y) yv5 zv5 dX0_image_60 ?_
    refine lv_iload_n hx hb dX0_image_63 rfl (lv_at hl 1 rfl) ?_
    replace z := ob z
    obtain ⟨v6, zv6, z⟩ := z
    refine c_aald S hG hH 8 rfl rfl zv6 dX0_image_64 ?_
    refine lv_iload_n hx hb dX0_image_65 rfl (lv_at hl 2 rfl) ?_
    replace z := ob z
    obtain ⟨v7, zv7, z⟩ := z
    refine c_iald S hG hH zv7 dX0_image_66 ?_
    refine lv_iconst (v := (2 : Int32)) hx hb dX0_image_67 (by decide) ?_
    replace z := ob z
    obtain ⟨b8, zb8, z⟩ := z
    obtain ⟨yb8, zb8⟩ := rcv_e zb8
    replace z := ob z
    obtain ⟨x9, zx9, z⟩ := z
    refine c_callv hH hS hRM (fun _ _ f1 f2 => va_runV (b := b8) (As := [.int v7, .int (2 : Int32)]) (rest := []) S (metX0_writes zx9) (cwV 2 hts (lw_V q1695 q1697 qs61 q167 q1698) rfl rfl rfl (by decide +kernel) ⟨(Nat.le_of_ble_eq_true rfl), (Nat.le_of_ble_eq_true rfl)⟩) (c_preV hG hH hS (ci := 0) rfl zb8) rfl rfl hl.1 (by rw [yb8]; rfl) (lv_room (Nat.le_of_ble_eq_true rfl)) dX0_image_68 ⟨f1, f2⟩) (fun H locs hH hS => ?_)
    refine lv_iinc (v := (a2 + (1 : Int32))) (lv' := [(2, .int (a2 + (1 : Int32))), (0, va_rf (some a0)), (1, .int a1)]) hx hb dX0_image_71 hl (k := 2) rfl rfl (by decide) rfl (fun ls hl => ?_)
    refine lv_goto (tgt := 47) hx hb dX0_image_74 (by decide) ?_
    exact ih x9 a1 (a2 + (1 : Int32)) z _ _ hH hS _ (lv_sub hl [1, 2, 0] rfl)
set_option maxHeartbeats 4000000 in
theorem wX0_image_145 {p : Program} {l : Launch} {e : Env} {s : State} {m : MethodId} {args : Array Value} {below : List Frame} {meth : Method} {c : Code} {A : Nat → Prop} {D : va_G} {ac : Nat → ClassId} {K : KE} {h0 : HS} {a0 : Nat} (S : CallFix p m c cX0_image 3 s args lw_all RX0) (hr : meth.sig.returnType = some .int) (hlk : meth.locks = false) (hnm : meth.name = "image") (hG : GK A D ac K s) (hRM : RM K s (rmC 3 40 K h0)) {x : HS × Int32} {k117 : HS → Int32 → Option (HS × Int32)} (hk117 : ∀ h a1, k117 h a1 = some x → cGo p l e (rmC 3 40 K h0) s m args below meth c A D ac K (MQ below (cQi A D ac K x) args s (K.2.2.1 - h0.2.1) (K.2.2.2 - h0.2.2) A) 3 117 [(0, va_rf (some a0)), (1, .int a1)] [] h) : ∀ (h : HS) (a1 : Int32) (t1 : Int32), fX0_image_145 K a0 k117 h a1 t1 = some x → cGo p l e (rmC 3 40 K h0) s m args below meth c A D ac K (MQ below (cQi A D ac K x) args s (K.2.2.1 - h0.2.1) (K.2.2.2 - h0.2.2) A) 3 145 [(0, va_rf (some a0)), (1, .int a1)] [.int t1, va_rf (some a0)] h := by
  obtain ⟨hx, hb, hml, hown, hts⟩ := id S
  intro h a1 t1 z H locs hH hS ls hl
  unfold fX0_image_145 at z
  refine lv_iconst (v := (1 : Int32)) hx hb dX0_image_145 (by decide) ?_
  replace z := ob z
  obtain ⟨b1, zb1, z⟩ := z
  obtain ⟨yb1, zb1⟩ := rcv_e zb1
  replace z := ob z
  obtain ⟨x2, zx2, z⟩ := z
  refine c_callv hH hS hRM (fun _ _ f1 f2 => va_runV (b := b1) (As := [.int t1, .int (1 : Int32)]) (rest := []) S (metX0_writes zx2) (cwV 2 hts (lw_V q1695 q1697 qs61 q167 q1698) rfl rfl rfl (by decide +kernel) ⟨(Nat.le_of_ble_eq_true rfl), (Nat.le_of_ble_eq_true rfl)⟩) (c_preV hG hH hS (ci := 0) rfl zb1) rfl rfl hl.1 (by rw [yb1]; rfl) (lv_room (Nat.le_of_ble_eq_true rfl)) dX0_image_146 ⟨f1, f2⟩) (fun H locs hH hS => ?_)
  refine c_aload_n hx hb dX0_image_149 rfl (lv_at hl 0 rfl) ?_
  refine c_aload_n hx hb dX0_image_150 rfl (lv_at hl 0 rfl) ?_
  replace z := ob z
  obtain ⟨v3, zv3, z⟩ := z
  obtain ⟨fsv3, yv3, zv3⟩ := gR_e zv3
  refine c_get S hG hH (ci := 0) (k := 9) rfl in_X0 (Nat.le_of_ble_eq_true rfl) q489 (fun _ y => y) yv3 zv3 dX0_image_151 ?_
  replace z := ob z
  obtain ⟨v4, zv4, z⟩ := z
  obtain ⟨fsv4, yv4, zv4⟩ := gR_e zv4
  refine c_getN S hG hH (ci := 5) (k := 5) rfl in_X5 (Nat.le_of_ble_eq_true rfl) q440 (fun _ y => y) yv4 zv4 dX0_image_154 ?_
  refine lv_iload_n hx hb dX0_image_157 rfl (lv_at hl 1 rfl) ?_
  replace z := ob z
  obtain ⟨v5, zv5, z⟩ := z
  refine c_iald S hG hH zv5 dX0_image_158 ?_
  refine lv_iconst (v := (2 : Int32)) hx hb dX0_image_159 (by decide) ?_
  replace z := ob z
  obtain ⟨b6, zb6, z⟩ := z
  obtain ⟨yb6, zb6⟩ := rcv_e zb6
  replace z := ob z
  obtain ⟨x7, zx7, z⟩ := z
  refine c_callv hH hS hRM (fun _ _ f1 f2 => va_runV (b := b6) (As := [.int v5, .int (2 : Int32)]) (rest := []) S (metX0_writes zx7) (cwV 2 hts (lw_V q1695 q1697 qs61 q167 q1698) rfl rfl rfl (by decide +kernel) ⟨(Nat.le_of_ble_eq_true rfl), (Nat.le_of_ble_eq_true rfl)⟩) (c_preV hG hH hS (ci := 0) rfl zb6) rfl rfl hl.1 (by rw [yb6]; rfl) (lv_room (Nat.le_of_ble_eq_true rfl)) dX0_image_160 ⟨f1, f2⟩) (fun H locs hH hS => ?_)
  refine lv_iinc (v := (a1 + (1 : Int32))) (lv' := [(1, .int (a1 + (1 : Int32))), (0, va_rf (some a0))]) hx hb dX0_image_163 hl (k := 1) rfl rfl (by decide) rfl (fun ls hl => ?_)
  refine lv_goto (tgt := 117) hx hb dX0_image_166 (by decide) ?_
  exact hk117 x7 (a1 + (1 : Int32)) z _ _ hH hS _ (lv_sub hl [1, 0] rfl)
set_option maxHeartbeats 4000000 in
theorem wX0_image_117 {p : Program} {l : Launch} {e : Env} {s : State} {m : MethodId} {args : Array Value} {below : List Frame} {meth : Method} {c : Code} {A : Nat → Prop} {D : va_G} {ac : Nat → ClassId} {K : KE} {h0 : HS} {a0 : Nat} (S : CallFix p m c cX0_image 3 s args lw_all RX0) (hr : meth.sig.returnType = some .int) (hlk : meth.locks = false) (hnm : meth.name = "image") (hG : GK A D ac K s) (hRM : RM K s (rmC 3 40 K h0)) {x : HS × Int32} : ∀ (n : Nat) (h : HS) (a1 : Int32), fX0_image_117 K a0 n h a1 = some x → cGo p l e (rmC 3 40 K h0) s m args below meth c A D ac K (MQ below (cQi A D ac K x) args s (K.2.2.1 - h0.2.1) (K.2.2.2 - h0.2.2) A) 3 117 [(0, va_rf (some a0)), (1, .int a1)] [] h := by
  obtain ⟨hx, hb, hml, hown, hts⟩ := id S
  intro n
  induction n with
  | zero => intro h a1 z; cases z
  | succ n ih =>
    intro h a1 z H locs hH hS ls hl
    rw [fX0_image_117] at z
    refine lv_iload_n hx hb dX0_image_117 rfl (lv_at hl 1 rfl) ?_
    refine c_aload_n hx hb dX0_image_118 rfl (lv_at hl 0 rfl) ?_
    replace z := ob z
    obtain ⟨b1, zb1, z⟩ := z
    obtain ⟨yb1, zb1⟩ := rcv_e zb1
    replace z := ob z
    obtain ⟨x2, zx2, z⟩ := z
    refine c_calli hH hS hRM (fun _ _ f1 f2 => va_runV (b := b1) (As := []) (rest := [.int a1]) S (metX0_people zx2) (cwV 0 hts (lw_V q1278 q1280 qs37 q167 q1281) rfl rfl rfl (by decide +kernel) ⟨(Nat.le_of_ble_eq_true rfl), (Nat.le_of_ble_eq_true rfl)⟩) (c_preV hG hH hS (ci := 0) rfl zb1) rfl rfl hl.1 (by rw [yb1]; rfl) (lv_room (Nat.le_of_ble_eq_true rfl)) dX0_image_119 ⟨f1, f2⟩) (fun H locs hH hS => ?_)
    refine lv_icmp_ge (tgt := 169) hx hb dX0_image_122 (by decide) (fun c3 => ?_) (fun c3 => ?_)
    rotate_left 1
    · replace z := ie c3 z
      refine c_aload_n hx hb dX0_image_125 rfl (lv_at hl 0 rfl) ?_
      refine c_aload_n hx hb dX0_image_126 rfl (lv_at hl 0 rfl) ?_
      replace z := ob z
      obtain ⟨v10, zv10, z⟩ := z
      obtain ⟨fsv10, yv10, zv10⟩ := gR_e zv10
      refine c_get S hG hH (ci := 0) (k := 9) rfl in_X0 (Nat.le_of_ble_eq_true rfl) q489 (fun _ y => y) yv10 zv10 dX0_image_127 ?_
      replace z := ob z
      obtain ⟨v11, zv11, z⟩ := z
      obtain ⟨fsv11, yv11, zv11⟩ := gI_e zv11
      refine c_getN S hG hH (ci := 5) (k := 1) rfl in_X5 (Nat.le_of_ble_eq_true rfl) q432 (fun _ y => y) yv11 zv11 dX0_image_130 ?_
      refine lv_iload_n hx hb dX0_image_133 rfl (lv_at hl 1 rfl) ?_
      replace z := ob z
      obtain ⟨x12, zx12, z⟩ := z
      refine c_calli hH hS hRM (fun _ _ f1 f2 => va_runS (As := [.int v11, .int a1]) (rest := [va_rf (some a0)]) S (metX0_has zx12) (va_cwS 2 hts (lw_S q1349 q975 q167 q976) rfl rfl rfl (by decide +kernel) ⟨(Nat.le_of_ble_eq_true rfl), (Nat.le_of_ble_eq_true rfl)⟩) (c_pre hG hH hS) rfl rfl hl.1 rfl (lv_room (Nat.le_of_ble_eq_true rfl)) dX0_image_134 ⟨f1, f2⟩) (fun H locs hH hS => ?_)
      refine lv_if_eq (tgt := 144) hx hb dX0_image_137 (by decide) (fun c13 => ?_) (fun c13 => ?_)
      · replace z := it c13 z
        refine lv_iconst (v := (0 : Int32)) hx hb dX0_image_144 (by decide) ?_
        exact wX0_image_145 S hr hlk hnm hG hRM ih h a1 (0 : Int32) z _ _ hH hS _ (lv_sub hl [0, 1] rfl)
      replace z := ie c13 z
      refine lv_iconst (v := (1 : Int32)) hx hb dX0_image_140 (by decide) ?_
      refine lv_goto (tgt := 145) hx hb dX0_image_141 (by decide) ?_
      exact wX0_image_145 S hr hlk hnm hG hRM ih h a1 (1 : Int32) z _ _ hH hS _ (lv_sub hl [0, 1] rfl)
    replace z := it c3 z
    refine c_aload_n hx hb dX0_image_169 rfl (lv_at hl 0 rfl) ?_
    refine c_aload_n hx hb dX0_image_170 rfl (lv_at hl 0 rfl) ?_
    replace z := ob z
    obtain ⟨v4, zv4, z⟩ := z
    obtain ⟨fsv4, yv4, zv4⟩ := gR_e zv4
    refine c_get S hG hH (ci := 0) (k := 20) rfl in_X0 (Nat.le_of_ble_eq_true rfl) q500 (fun _ y => y) yv4 zv4 dX0_image_171 ?_
    refine c_aload_n hx hb dX0_image_174 rfl (lv_at hl 0 rfl) ?_
    replace z := ob z
    obtain ⟨v5, zv5, z⟩ := z
    obtain ⟨fsv5, yv5, zv5⟩ := gI_e zv5
    refine c_get S hG hH (ci := 0) (k := 21) rfl in_X0 (Nat.le_of_ble_eq_true rfl) q501 (fun _ y => y) yv5 zv5 dX0_image_175 ?_
    replace z := ob z
    obtain ⟨x6, zx6, z⟩ := z
    refine c_calli hH hS hRM (fun _ _ f1 f2 => va_runS (As := [va_rf v4, .int v5]) (rest := [va_rf (some a0)]) S (metX0_check zx6) (va_cwS 2 hts (lw_S q1699 q1700 q167 q1701) rfl rfl rfl (by decide +kernel) ⟨(Nat.le_of_ble_eq_true rfl), (Nat.le_of_ble_eq_true rfl)⟩) (c_pre hG hH hS) rfl rfl hl.1 rfl (lv_room (Nat.le_of_ble_eq_true rfl)) dX0_image_178 ⟨f1, f2⟩) (fun H locs hH hS => ?_)
    refine lv_iconst (v := (1 : Int32)) hx hb dX0_image_181 (by decide) ?_
    replace z := ob z
    obtain ⟨b7, zb7, z⟩ := z
    obtain ⟨yb7, zb7⟩ := rcv_e zb7
    replace z := ob z
    obtain ⟨x8, zx8, z⟩ := z
    refine c_callv hH hS hRM (fun _ _ f1 f2 => va_runV (b := b7) (As := [.int x6, .int (1 : Int32)]) (rest := []) S (metX0_writes zx8) (cwV 2 hts (lw_V q1695 q1697 qs61 q167 q1698) rfl rfl rfl (by decide +kernel) ⟨(Nat.le_of_ble_eq_true rfl), (Nat.le_of_ble_eq_true rfl)⟩) (c_preV hG hH hS (ci := 0) rfl zb7) rfl rfl hl.1 (by rw [yb7]; rfl) (lv_room (Nat.le_of_ble_eq_true rfl)) dX0_image_182 ⟨f1, f2⟩) (fun H locs hH hS => ?_)
    refine c_aload_n hx hb dX0_image_185 rfl (lv_at hl 0 rfl) ?_
    replace z := ob z
    obtain ⟨v9, zv9, z⟩ := z
    obtain ⟨fsv9, yv9, zv9⟩ := gI_e zv9
    refine c_get S hG hH (ci := 0) (k := 21) rfl in_X0 (Nat.le_of_ble_eq_true rfl) q501 (fun _ y => y) yv9 zv9 dX0_image_186 ?_
    exact c_iret S hr hlk rfl hH hS z dX0_image_189
set_option maxHeartbeats 4000000 in
theorem wX0_image_37 {p : Program} {l : Launch} {e : Env} {s : State} {m : MethodId} {args : Array Value} {below : List Frame} {meth : Method} {c : Code} {A : Nat → Prop} {D : va_G} {ac : Nat → ClassId} {K : KE} {h0 : HS} {a0 : Nat} (S : CallFix p m c cX0_image 3 s args lw_all RX0) (hr : meth.sig.returnType = some .int) (hlk : meth.locks = false) (hnm : meth.name = "image") (hG : GK A D ac K s) (hRM : RM K s (rmC 3 40 K h0)) {x : HS × Int32} : ∀ (n : Nat) (h : HS) (a1 : Int32), fX0_image_37 K a0 n h a1 = some x → cGo p l e (rmC 3 40 K h0) s m args below meth c A D ac K (MQ below (cQi A D ac K x) args s (K.2.2.1 - h0.2.1) (K.2.2.2 - h0.2.2) A) 3 37 [(0, va_rf (some a0)), (1, .int a1)] [] h := by
  obtain ⟨hx, hb, hml, hown, hts⟩ := id S
  intro n
  induction n with
  | zero => intro h a1 z; cases z
  | succ n ih =>
    intro h a1 z H locs hH hS ls hl
    rw [fX0_image_37] at z
    refine lv_iload_n hx hb dX0_image_37 rfl (lv_at hl 1 rfl) ?_
    refine c_aload_n hx hb dX0_image_38 rfl (lv_at hl 0 rfl) ?_
    replace z := ob z
    obtain ⟨b1, zb1, z⟩ := z
    obtain ⟨yb1, zb1⟩ := rcv_e zb1
    replace z := ob z
    obtain ⟨x2, zx2, z⟩ := z
    refine c_calli hH hS hRM (fun _ _ f1 f2 => va_runV (b := b1) (As := []) (rest := [.int a1]) S (metX0_people zx2) (cwV 0 hts (lw_V q1278 q1280 qs37 q167 q1281) rfl rfl rfl (by decide +kernel) ⟨(Nat.le_of_ble_eq_true rfl), (Nat.le_of_ble_eq_true rfl)⟩) (c_preV hG hH hS (ci := 0) rfl zb1) rfl rfl hl.1 (by rw [yb1]; rfl) (lv_room (Nat.le_of_ble_eq_true rfl)) dX0_image_39 ⟨f1, f2⟩) (fun H locs hH hS => ?_)
    refine lv_icmp_gt (tgt := 115) hx hb dX0_image_42 (by decide) (fun c3 => ?_) (fun c3 => ?_)
    · replace z := it c3 z
      refine lv_iconst (v := (0 : Int32)) hx hb dX0_image_115 (by decide) ?_
      refine lv_istore_n (lv' := [(1, .int (0 : Int32)), (0, va_rf (some a0))]) hx hb dX0_image_116 rfl hl (by decide) rfl (fun ls hl => ?_)
      exact wX0_image_117 S hr hlk hnm hG hRM FU h (0 : Int32) z _ _ hH hS _ (lv_sub hl [1, 0] rfl)
    replace z := ie c3 z
    refine lv_iconst (v := (0 : Int32)) hx hb dX0_image_45 (by decide) ?_
    refine lv_istore_n (lv' := [(2, .int (0 : Int32)), (0, va_rf (some a0)), (1, .int a1)]) hx hb dX0_image_46 rfl hl (by decide) rfl (fun ls hl => ?_)
    exact wX0_image_47 S hr hlk hnm hG hRM ih FU h a1 (0 : Int32) z _ _ hH hS _ (lv_sub hl [1, 2, 0] rfl)
set_option maxHeartbeats 4000000 in
theorem metX0_image {l : Launch} {A : Nat → Prop} {D : va_G} {ac : Nat → ClassId} {K : KE} {h : HS} {a0 : Nat} {x : HS × Int32} (z : fX0_image K h a0 = some x) : Met l yX0_image (ws_ yX0_image cX0_image 3 (some .int)) (rmC 3 40 K h) (cP A D ac K h [va_rf (some a0)]) (cQi A D ac K x) (K.2.2.1 - h.2.1) (K.2.2.2 - h.2.2) A := by
  refine c_entry (plainFor_of_name (by decide)) (Nat.le_of_ble_eq_true rfl) ?_
  intro p e s m below meth c S hr hlk hnm hG hRM hH hS ls hl
  replace hl : lv_has ls 3 [(0, va_rf (some a0))] := hl
  replace hnm : meth.name = "image" := hnm
  replace S : CallFix p m c cX0_image 3 s _ lw_all RX0 := S
  obtain ⟨hx, hb, hml, hown, hts⟩ := id S
  unfold fX0_image at z
  refine c_aload_n hx hb dX0_image_0 rfl (lv_at hl 0 rfl) ?_
  refine lv_iconst (v := (0 : Int32)) hx hb dX0_image_1 (by decide) ?_
  replace z := ob z
  obtain ⟨h1, zh1, z⟩ := z
  refine c_put S hG hH hS (ci := 0) (k := 21) rfl in_X0 tyX0 tyX0_ok nmX0 (Nat.le_of_ble_eq_true rfl) q501 (fun _ y => y) rfl (ty := .int) rfl rfl rfl zh1 dX0_image_2 (fun H locs hH hS => ?_)
  refine c_aload_n hx hb dX0_image_5 rfl (lv_at hl 0 rfl) ?_
  refine c_aload_n hx hb dX0_image_6 rfl (lv_at hl 0 rfl) ?_
  replace z := ob z
  obtain ⟨v2, zv2, z⟩ := z
  obtain ⟨fsv2, yv2, zv2⟩ := gR_e zv2
  refine c_get S hG hH (ci := 0) (k := 9) rfl in_X0 (Nat.le_of_ble_eq_true rfl) q489 (fun _ y => y) yv2 zv2 dX0_image_7 ?_
  replace z := ob z
  obtain ⟨v3, zv3, z⟩ := z
  obtain ⟨fsv3, yv3, zv3⟩ := gI_e zv3
  refine c_getN S hG hH (ci := 5) (k := 0) rfl in_X5 (Nat.le_of_ble_eq_true rfl) q430 (fun _ y => y) yv3 zv3 dX0_image_10 ?_
  refine lv_bipush (v := (24 : Int32)) hx hb dX0_image_13 (by decide) ?_
  refine lv_idiv hx hb dX0_image_15 (by decide) ?_
  refine lv_iconst (v := (2 : Int32)) hx hb dX0_image_16 (by decide) ?_
  replace z := ob z
  obtain ⟨b4, zb4, z⟩ := z
  obtain ⟨yb4, zb4⟩ := rcv_e zb4
  replace z := ob z
  obtain ⟨x5, zx5, z⟩ := z
  refine c_callv hH hS hRM (fun _ _ f1 f2 => va_runV (b := b4) (As := [.int (v3 / (24 : Int32)), .int (2 : Int32)]) (rest := []) S (metX0_writes zx5) (cwV 2 hts (lw_V q1695 q1697 qs61 q167 q1698) rfl rfl rfl (by decide +kernel) ⟨(Nat.le_of_ble_eq_true rfl), (Nat.le_of_ble_eq_true rfl)⟩) (c_preV hG hH hS (ci := 0) rfl zb4) rfl rfl hl.1 (by rw [yb4]; rfl) (lv_room (Nat.le_of_ble_eq_true rfl)) dX0_image_17 ⟨f1, f2⟩) (fun H locs hH hS => ?_)
  refine c_aload_n hx hb dX0_image_20 rfl (lv_at hl 0 rfl) ?_
  refine c_aload_n hx hb dX0_image_21 rfl (lv_at hl 0 rfl) ?_
  replace z := ob z
  obtain ⟨v6, zv6, z⟩ := z
  obtain ⟨fsv6, yv6, zv6⟩ := gR_e zv6
  refine c_get S hG hH (ci := 0) (k := 9) rfl in_X0 (Nat.le_of_ble_eq_true rfl) q489 (fun _ y => y) yv6 zv6 dX0_image_22 ?_
  replace z := ob z
  obtain ⟨v7, zv7, z⟩ := z
  obtain ⟨fsv7, yv7, zv7⟩ := gI_e zv7
  refine c_getN S hG hH (ci := 5) (k := 0) rfl in_X5 (Nat.le_of_ble_eq_true rfl) q430 (fun _ y => y) yv7 zv7 dX0_image_25 ?_
  refine lv_bipush (v := (24 : Int32)) hx hb dX0_image_28 (by decide) ?_
  refine lv_irem hx hb dX0_image_30 (by decide) ?_
  refine lv_iconst (v := (1 : Int32)) hx hb dX0_image_31 (by decide) ?_
  replace z := ob z
  obtain ⟨b8, zb8, z⟩ := z
  obtain ⟨yb8, zb8⟩ := rcv_e zb8
  replace z := ob z
  obtain ⟨x9, zx9, z⟩ := z
  refine c_callv hH hS hRM (fun _ _ f1 f2 => va_runV (b := b8) (As := [.int (v7 - v7 / (24 : Int32) * (24 : Int32)), .int (1 : Int32)]) (rest := []) S (metX0_writes zx9) (cwV 2 hts (lw_V q1695 q1697 qs61 q167 q1698) rfl rfl rfl (by decide +kernel) ⟨(Nat.le_of_ble_eq_true rfl), (Nat.le_of_ble_eq_true rfl)⟩) (c_preV hG hH hS (ci := 0) rfl zb8) rfl rfl hl.1 (by rw [yb8]; rfl) (lv_room (Nat.le_of_ble_eq_true rfl)) dX0_image_32 ⟨f1, f2⟩) (fun H locs hH hS => ?_)
  refine lv_iconst (v := (0 : Int32)) hx hb dX0_image_35 (by decide) ?_
  refine lv_istore_n (lv' := [(1, .int (0 : Int32)), (0, va_rf (some a0))]) hx hb dX0_image_36 rfl hl (by decide) rfl (fun ls hl => ?_)
  exact wX0_image_37 S hr hlk hnm hG hRM FU x9 (0 : Int32) z _ _ hH hS _ (lv_sub hl [1, 0] rfl)
/-! FourOnOne.octet(I)I -/
def fX0_octet_12 (K : KE) (h : HS) (a0 : Nat) : Option (Int32) :=
  some (-1 : Int32)
def fX0_octet (K : KE) (h : HS) (a0 : Nat) (a1 : Int32) : Option (Int32) :=
  if a1 < 0 then
    fX0_octet_12 K h a0
  else
  (gI K h (some a0) 0 21).bind fun v2 =>
  if a1 < v2 then
    (gR K h (some a0) 0 20).bind fun v4 =>
    (cI K h v4 3 a1).bind fun v5 =>
    some (v5 &&& (255 : Int32))
  else
  fX0_octet_12 K h a0
set_option maxHeartbeats 4000000 in
theorem wX0_octet_12 {p : Program} {l : Launch} {e : Env} {s : State} {m : MethodId} {args : Array Value} {below : List Frame} {meth : Method} {c : Code} {A : Nat → Prop} {D : va_G} {ac : Nat → ClassId} {K : KE} {h : HS} {a0 : Nat} (S : CallFix p m c cX0_octet 2 s args lw_all RX0) (hr : meth.sig.returnType = some .int) (hlk : meth.locks = false) (hnm : meth.name = "octet") (hG : GK A D ac K s) (hRM : RM K s (rmC 1 0 K h)) {x : Int32} : fX0_octet_12 K h a0 = some x → cGo p l e (rmC 1 0 K h) s m args below meth c A D ac K (MQ below (cQi A D ac K (h, x)) args s (K.2.2.1 - h.2.1) (K.2.2.2 - h.2.2) A) 2 12 [(0, va_rf (some a0))] [] h := by
  obtain ⟨hx, hb, hml, hown, hts⟩ := id S
  intro  z H locs hH hS ls hl
  unfold fX0_octet_12 at z
  refine lv_iconst (v := (-1 : Int32)) hx hb dX0_octet_12 (by decide) ?_
  refine lv_goto (tgt := 26) hx hb dX0_octet_13 (by decide) ?_
  exact c_iret' S hr hlk rfl hH hS z dX0_octet_26
set_option maxHeartbeats 4000000 in
theorem metX0_octet {l : Launch} {A : Nat → Prop} {D : va_G} {ac : Nat → ClassId} {K : KE} {h : HS} {a0 : Nat} {a1 : Int32} {x : Int32} (z : fX0_octet K h a0 a1 = some x) : Met l yX0_octet (ws_ yX0_octet cX0_octet 2 (some .int)) (rmC 1 0 K h) (cP A D ac K h [va_rf (some a0), .int a1]) (cQi A D ac K (h, x)) (K.2.2.1 - h.2.1) (K.2.2.2 - h.2.2) A := by
  refine c_entry (plainFor_of_name (by decide)) (Nat.le_of_ble_eq_true rfl) ?_
  intro p e s m below meth c S hr hlk hnm hG hRM hH hS ls hl
  replace hl : lv_has ls 2 [(0, va_rf (some a0)), (1, .int a1)] := hl
  replace hnm : meth.name = "octet" := hnm
  replace S : CallFix p m c cX0_octet 2 s _ lw_all RX0 := S
  obtain ⟨hx, hb, hml, hown, hts⟩ := id S
  unfold fX0_octet at z
  refine lv_iload_n hx hb dX0_octet_0 rfl (lv_at hl 1 rfl) ?_
  refine lv_if_lt (tgt := 12) hx hb dX0_octet_1 (by decide) (fun c1 => ?_) (fun c1 => ?_)
  · replace z := it c1 z
    exact wX0_octet_12 S hr hlk hnm hG hRM z _ _ hH hS _ (lv_sub hl [0] rfl)
  replace z := ie c1 z
  refine lv_iload_n hx hb dX0_octet_4 rfl (lv_at hl 1 rfl) ?_
  refine c_aload_n hx hb dX0_octet_5 rfl (lv_at hl 0 rfl) ?_
  replace z := ob z
  obtain ⟨v2, zv2, z⟩ := z
  obtain ⟨fsv2, yv2, zv2⟩ := gI_e zv2
  refine c_get S hG hH (ci := 0) (k := 21) rfl in_X0 (Nat.le_of_ble_eq_true rfl) q501 (fun _ y => y) yv2 zv2 dX0_octet_6 ?_
  refine lv_icmp_lt (tgt := 16) hx hb dX0_octet_9 (by decide) (fun c3 => ?_) (fun c3 => ?_)
  rotate_left 1
  · replace z := ie c3 z
    exact wX0_octet_12 S hr hlk hnm hG hRM z _ _ hH hS _ (lv_sub hl [0] rfl)
  replace z := it c3 z
  refine c_aload_n hx hb dX0_octet_16 rfl (lv_at hl 0 rfl) ?_
  replace z := ob z
  obtain ⟨v4, zv4, z⟩ := z
  obtain ⟨fsv4, yv4, zv4⟩ := gR_e zv4
  refine c_get S hG hH (ci := 0) (k := 20) rfl in_X0 (Nat.le_of_ble_eq_true rfl) q500 (fun _ y => y) yv4 zv4 dX0_octet_17 ?_
  refine lv_iload_n hx hb dX0_octet_20 rfl (lv_at hl 1 rfl) ?_
  replace z := ob z
  obtain ⟨v5, zv5, z⟩ := z
  refine c_bald S hG hH zv5 dX0_octet_21 ?_
  refine lv_sipush (v := (255 : Int32)) hx hb dX0_octet_22 (by decide) ?_
  refine lv_iand hx hb dX0_octet_25 ?_
  exact c_iret' S hr hlk rfl hH hS z dX0_octet_26

set_option maxRecDepth 100000
/-! FourOnOne.pressed(I)I -/
def fX0_pressed_84 (K : KE) (a0 : Nat) (k37 : HS → Int32 → Int32 → Int32 → Int32 → Int32 → Option (HS × Int32)) (h : HS) (a1 : Int32) (a2 : Int32) (a3 : Int32) (a4 : Int32) (a5 : Int32) : Option (HS × Int32) :=
  k37 h a1 a2 a3 a4 (a5 + (1 : Int32))
def fX0_pressed_73 (K : KE) (a0 : Nat) (k37 : HS → Int32 → Int32 → Int32 → Int32 → Int32 → Option (HS × Int32)) (h : HS) (a1 : Int32) (a2 : Int32) (a4 : Int32) (a5 : Int32) (t0 : Int32) : Option (HS × Int32) :=
  fX0_pressed_84 K a0 k37 h a1 (a2 + (1 : Int32)) t0 (a4 ||| a5) a5
def fX0_pressed_37 (K : KE) (a0 : Nat) : Nat → HS → Int32 → Int32 → Int32 → Int32 → Int32 → Option (HS × Int32)
  | 0, _, _, _, _, _, _ => none
  | n + 1, h, a1, a2, a3, a4, a5 =>
    (rcv K h (some a0) 0).bind fun b1 =>
    (fX0_people K h b1).bind fun x2 =>
    if ((1 : Int32) <<< (x2 &&& 31)) ≤ a5 then
      if a1 = 0 then
        some (h, a2)
      else
      if a1 = (1 : Int32) then
        some (h, a3)
      else
      some (h, a4)
    else
    (rcv K h (some a0) 0).bind fun b6 =>
    (fX0_isAsTold K h b6 a5).bind fun x7 =>
    if x7.2 = 0 then
      fX0_pressed_84 K a0 (fun h' b1 b2 b3 b4 b5 => fX0_pressed_37 K a0 n h' b1 b2 b3 b4 b5) x7.1 a1 a2 a3 a4 a5
    else
    if a2 = 0 then
      fX0_pressed_73 K a0 (fun h' b1 b2 b3 b4 b5 => fX0_pressed_37 K a0 n h' b1 b2 b3 b4 b5) x7.1 a1 a2 a4 a5 a5
    else
    fX0_pressed_73 K a0 (fun h' b1 b2 b3 b4 b5 => fX0_pressed_37 K a0 n h' b1 b2 b3 b4 b5) x7.1 a1 a2 a4 a5 (a3 &&& a5)
def fX0_pressed (K : KE) (h : HS) (a0 : Nat) (a1 : Int32) : Option (HS × Int32) :=
  (fX0_is K h a1 (0 : Int32) (2 : Int32)).bind fun x1 =>
  if x1 = 0 then
    some (h, (-1 : Int32))
  else
  (rcv K h (some a0) 0).bind fun b3 =>
  (fX0_lastHour K h b3).bind fun x4 =>
  (rcv K h (some a0) 0).bind fun b5 =>
  (fX0_isAhead K h b5 (x4 + (1 : Int32)) (0 : Int32) (24 : Int32)).bind fun x6 =>
  if x6 = 0 then
    some (h, (-1 : Int32))
  else
  fX0_pressed_37 K a0 FU h a1 (0 : Int32) (0 : Int32) (0 : Int32) (0 : Int32)
set_option maxHeartbeats 4000000 in
theorem wX0_pressed_84 {p : Program} {l : Launch} {e : Env} {s : State} {m : MethodId} {args : Array Value} {below : List Frame} {meth : Method} {c : Code} {A : Nat → Prop} {D : va_G} {ac : Nat → ClassId} {K : KE} {h0 : HS} {a0 : Nat} (S : CallFix p m c cX0_pressed 6 s args lw_all RX0) (hr : meth.sig.returnType = some .int) (hlk : meth.locks = false) (hnm : meth.name = "pressed") (hG : GK A D ac K s) (hRM : RM K s (rmC 169 8462 K h0)) {x : HS × Int32} {k37 : HS → Int32 → Int32 → Int32 → Int32 → Int32 → Option (HS × Int32)} (hk37 : ∀ h a1 a2 a3 a4 a5, k37 h a1 a2 a3 a4 a5 = some x → cGo p l e (rmC 169 8462 K h0) s m args below meth c A D ac K (MQ below (cQi A D ac K x) args s (K.2.2.1 - h0.2.1) (K.2.2.2 - h0.2.2) A) 6 37 [(0, va_rf (some a0)), (1, .int a1), (2, .int a2), (3, .int a3), (4, .int a4), (5, .int a5)] [] h) : ∀ (h : HS) (a1 : Int32) (a2 : Int32) (a3 : Int32) (a4 : Int32) (a5 : Int32), fX0_pressed_84 K a0 k37 h a1 a2 a3 a4 a5 = some x → cGo p l e (rmC 169 8462 K h0) s m args below meth c A D ac K (MQ below (cQi A D ac K x) args s (K.2.2.1 - h0.2.1) (K.2.2.2 - h0.2.2) A) 6 84 [(0, va_rf (some a0)), (1, .int a1), (2, .int a2), (3, .int a3), (4, .int a4), (5, .int a5)] [] h := by
  obtain ⟨hx, hb, hml, hown, hts⟩ := id S
  intro h a1 a2 a3 a4 a5 z H locs hH hS ls hl
  unfold fX0_pressed_84 at z
  refine lv_iinc (v := (a5 + (1 : Int32))) (lv' := [(5, .int (a5 + (1 : Int32))), (0, va_rf (some a0)), (1, .int a1), (2, .int a2), (3, .int a3), (4, .int a4)]) hx hb dX0_pressed_84 hl (k := 5) rfl rfl (by decide) rfl (fun ls hl => ?_)
  refine lv_goto (tgt := 37) hx hb dX0_pressed_87 (by decide) ?_
  exact hk37 h a1 a2 a3 a4 (a5 + (1 : Int32)) z _ _ hH hS _ (lv_sub hl [1, 2, 3, 4, 5, 0] rfl)
set_option maxHeartbeats 4000000 in
theorem wX0_pressed_73 {p : Program} {l : Launch} {e : Env} {s : State} {m : MethodId} {args : Array Value} {below : List Frame} {meth : Method} {c : Code} {A : Nat → Prop} {D : va_G} {ac : Nat → ClassId} {K : KE} {h0 : HS} {a0 : Nat} (S : CallFix p m c cX0_pressed 6 s args lw_all RX0) (hr : meth.sig.returnType = some .int) (hlk : meth.locks = false) (hnm : meth.name = "pressed") (hG : GK A D ac K s) (hRM : RM K s (rmC 169 8462 K h0)) {x : HS × Int32} {k37 : HS → Int32 → Int32 → Int32 → Int32 → Int32 → Option (HS × Int32)} (hk37 : ∀ h a1 a2 a3 a4 a5, k37 h a1 a2 a3 a4 a5 = some x → cGo p l e (rmC 169 8462 K h0) s m args below meth c A D ac K (MQ below (cQi A D ac K x) args s (K.2.2.1 - h0.2.1) (K.2.2.2 - h0.2.2) A) 6 37 [(0, va_rf (some a0)), (1, .int a1), (2, .int a2), (3, .int a3), (4, .int a4), (5, .int a5)] [] h) : ∀ (h : HS) (a1 : Int32) (a2 : Int32) (a4 : Int32) (a5 : Int32) (t0 : Int32), fX0_pressed_73 K a0 k37 h a1 a2 a4 a5 t0 = some x → cGo p l e (rmC 169 8462 K h0) s m args below meth c A D ac K (MQ below (cQi A D ac K x) args s (K.2.2.1 - h0.2.1) (K.2.2.2 - h0.2.2) A) 6 73 [(0, va_rf (some a0)), (1, .int a1), (2, .int a2), (4, .int a4), (5, .int a5)] [.int t0] h := by
  obtain ⟨hx, hb, hml, hown, hts⟩ := id S
  intro h a1 a2 a4 a5 t0 z H locs hH hS ls hl
  unfold fX0_pressed_73 at z
  refine lv_istore_n (lv' := [(3, .int t0), (0, va_rf (some a0)), (1, .int a1), (2, .int a2), (4, .int a4), (5, .int a5)]) hx hb dX0_pressed_73 rfl hl (by decide) rfl (fun ls hl => ?_)
  refine lv_iload hx hb dX0_pressed_74 (lv_at hl 4 rfl) ?_
  refine lv_iload hx hb dX0_pressed_76 (lv_at hl 5 rfl) ?_
  refine lv_ior hx hb dX0_pressed_78 ?_
  refine lv_istore (lv' := [(4, .int (a4 ||| a5)), (3, .int t0), (0, va_rf (some a0)), (1, .int a1), (2, .int a2), (5, .int a5)]) hx hb dX0_pressed_79 hl (by decide) rfl (fun ls hl => ?_)
  refine lv_iinc (v := (a2 + (1 : Int32))) (lv' := [(2, .int (a2 + (1 : Int32))), (4, .int (a4 ||| a5)), (3, .int t0), (0, va_rf (some a0)), (1, .int a1), (5, .int a5)]) hx hb dX0_pressed_81 hl (k := 4) rfl rfl (by decide) rfl (fun ls hl => ?_)
  exact wX0_pressed_84 S hr hlk hnm hG hRM hk37 h a1 (a2 + (1 : Int32)) t0 (a4 ||| a5) a5 z _ _ hH hS _ (lv_sub hl [3, 4, 0, 2, 1, 5] rfl)
set_option maxHeartbeats 4000000 in
theorem wX0_pressed_37 {p : Program} {l : Launch} {e : Env} {s : State} {m : MethodId} {args : Array Value} {below : List Frame} {meth : Method} {c : Code} {A : Nat → Prop} {D : va_G} {ac : Nat → ClassId} {K : KE} {h0 : HS} {a0 : Nat} (S : CallFix p m c cX0_pressed 6 s args lw_all RX0) (hr : meth.sig.returnType = some .int) (hlk : meth.locks = false) (hnm : meth.name = "pressed") (hG : GK A D ac K s) (hRM : RM K s (rmC 169 8462 K h0)) {x : HS × Int32} : ∀ (n : Nat) (h : HS) (a1 : Int32) (a2 : Int32) (a3 : Int32) (a4 : Int32) (a5 : Int32), fX0_pressed_37 K a0 n h a1 a2 a3 a4 a5 = some x → cGo p l e (rmC 169 8462 K h0) s m args below meth c A D ac K (MQ below (cQi A D ac K x) args s (K.2.2.1 - h0.2.1) (K.2.2.2 - h0.2.2) A) 6 37 [(0, va_rf (some a0)), (1, .int a1), (2, .int a2), (3, .int a3), (4, .int a4), (5, .int a5)] [] h := by
  obtain ⟨hx, hb, hml, hown, hts⟩ := id S
  intro n
  induction n with
  | zero => intro h a1 a2 a3 a4 a5 z; cases z
  | succ n ih =>
    intro h a1 a2 a3 a4 a5 z H locs hH hS ls hl
    rw [fX0_pressed_37] at z
    refine lv_iload hx hb dX0_pressed_37 (lv_at hl 5 rfl) ?_
    refine lv_iconst (v := (1 : Int32)) hx hb dX0_pressed_39 (by decide) ?_
    refine c_aload_n hx hb dX0_pressed_40 rfl (lv_at hl 0 rfl) ?_
    replace z := ob z
    obtain ⟨b1, zb1, z⟩ := z
    obtain ⟨yb1, zb1⟩ := rcv_e zb1
    replace z := ob z
    obtain ⟨x2, zx2, z⟩ := z
    refine c_calli hH hS hRM (fun _ _ f1 f2 => va_runV (b := b1) (As := []) (rest := [.int (1 : Int32), .int a5]) S (metX0_people zx2) (cwV 0 hts (lw_V q1278 q1280 qs37 q167 q1281) rfl rfl rfl (by decide +kernel) ⟨(Nat.le_of_ble_eq_true rfl), (Nat.le_of_ble_eq_true rfl)⟩) (c_preV hG hH hS (ci := 0) rfl zb1) rfl rfl hl.1 (by rw [yb1]; rfl) (lv_room (Nat.le_of_ble_eq_true rfl)) dX0_pressed_41 ⟨f1, f2⟩) (fun H locs hH hS => ?_)
    refine lv_ishl hx hb dX0_pressed_44 ?_
    refine lv_icmp_ge (tgt := 90) hx hb dX0_pressed_45 (by decide) (fun c3 => ?_) (fun c3 => ?_)
    · replace z := it c3 z
      refine lv_iload_n hx hb dX0_pressed_90 rfl (lv_at hl 1 rfl) ?_
      refine lv_if_ne (tgt := 98) hx hb dX0_pressed_91 (by decide) (fun c4 => ?_) (fun c4 => ?_)
      rotate_left 1
      · replace z := it c4 z
        refine lv_iload_n hx hb dX0_pressed_94 rfl (lv_at hl 2 rfl) ?_
        refine lv_goto (tgt := 109) hx hb dX0_pressed_95 (by decide) ?_
        exact c_iret S hr hlk rfl hH hS z dX0_pressed_109
      replace z := ie c4 z
      refine lv_iload_n hx hb dX0_pressed_98 rfl (lv_at hl 1 rfl) ?_
      refine lv_iconst (v := (1 : Int32)) hx hb dX0_pressed_99 (by decide) ?_
      refine lv_icmp_ne (tgt := 107) hx hb dX0_pressed_100 (by decide) (fun c5 => ?_) (fun c5 => ?_)
      · replace z := ie c5 z
        refine lv_iload hx hb dX0_pressed_107 (lv_at hl 4 rfl) ?_
        exact c_iret S hr hlk rfl hH hS z dX0_pressed_109
      replace z := it c5 z
      refine lv_iload_n hx hb dX0_pressed_103 rfl (lv_at hl 3 rfl) ?_
      refine lv_goto (tgt := 109) hx hb dX0_pressed_104 (by decide) ?_
      exact c_iret S hr hlk rfl hH hS z dX0_pressed_109
    replace z := ie c3 z
    refine c_aload_n hx hb dX0_pressed_48 rfl (lv_at hl 0 rfl) ?_
    refine lv_iload hx hb dX0_pressed_49 (lv_at hl 5 rfl) ?_
    replace z := ob z
    obtain ⟨b6, zb6, z⟩ := z
    obtain ⟨yb6, zb6⟩ := rcv_e zb6
    replace z := ob z
    obtain ⟨x7, zx7, z⟩ := z
    refine c_calli hH hS hRM (fun _ _ f1 f2 => va_runV (b := b6) (As := [.int a5]) (rest := []) S (metX0_isAsTold zx7) (cwV 1 hts (lw_V q1601 q1603 qs58 q167 q1604) rfl rfl rfl (by decide +kernel) ⟨(Nat.le_of_ble_eq_true rfl), (Nat.le_of_ble_eq_true rfl)⟩) (c_preV hG hH hS (ci := 0) rfl zb6) rfl rfl hl.1 (by rw [yb6]; rfl) (lv_room (Nat.le_of_ble_eq_true rfl)) dX0_pressed_51 ⟨f1, f2⟩) (fun H locs hH hS => ?_)
    refine lv_if_ne (tgt := 60) hx hb dX0_pressed_54 (by decide) (fun c8 => ?_) (fun c8 => ?_)
    rotate_left 1
    · replace z := it c8 z
      refine lv_goto (tgt := 84) hx hb dX0_pressed_57 (by decide) ?_
      exact wX0_pressed_84 S hr hlk hnm hG hRM ih x7.1 a1 a2 a3 a4 a5 z _ _ hH hS _ (lv_sub hl [0, 1, 2, 3, 4, 5] rfl)
    replace z := ie c8 z
    refine lv_iload_n hx hb dX0_pressed_60 rfl (lv_at hl 2 rfl) ?_
    refine lv_if_ne (tgt := 69) hx hb dX0_pressed_61 (by decide) (fun c9 => ?_) (fun c9 => ?_)
    rotate_left 1
    · replace z := it c9 z
      refine lv_iload hx hb dX0_pressed_64 (lv_at hl 5 rfl) ?_
      refine lv_goto (tgt := 73) hx hb dX0_pressed_66 (by decide) ?_
      exact wX0_pressed_73 S hr hlk hnm hG hRM ih x7.1 a1 a2 a4 a5 a5 z _ _ hH hS _ (lv_sub hl [0, 1, 2, 4, 5] rfl)
    replace z := ie c9 z
    refine lv_iload_n hx hb dX0_pressed_69 rfl (lv_at hl 3 rfl) ?_
    refine lv_iload hx hb dX0_pressed_70 (lv_at hl 5 rfl) ?_
    refine lv_iand hx hb dX0_pressed_72 ?_
    exact wX0_pressed_73 S hr hlk hnm hG hRM ih x7.1 a1 a2 a4 a5 (a3 &&& a5) z _ _ hH hS _ (lv_sub hl [0, 1, 2, 4, 5] rfl)
set_option maxHeartbeats 4000000 in
theorem metX0_pressed {l : Launch} {A : Nat → Prop} {D : va_G} {ac : Nat → ClassId} {K : KE} {h : HS} {a0 : Nat} {a1 : Int32} {x : HS × Int32} (z : fX0_pressed K h a0 a1 = some x) : Met l yX0_pressed (ws_ yX0_pressed cX0_pressed 6 (some .int)) (rmC 169 8462 K h) (cP A D ac K h [va_rf (some a0), .int a1]) (cQi A D ac K x) (K.2.2.1 - h.2.1) (K.2.2.2 - h.2.2) A := by
  refine c_entry (plainFor_of_name (by decide)) (Nat.le_of_ble_eq_true rfl) ?_
  intro p e s m below meth c S hr hlk hnm hG hRM hH hS ls hl
  replace hl : lv_has ls 6 [(0, va_rf (some a0)), (1, .int a1)] := hl
  replace hnm : meth.name = "pressed" := hnm
  replace S : CallFix p m c cX0_pressed 6 s _ lw_all RX0 := S
  obtain ⟨hx, hb, hml, hown, hts⟩ := id S
  unfold fX0_pressed at z
  refine lv_iload_n hx hb dX0_pressed_0 rfl (lv_at hl 1 rfl) ?_
  refine lv_iconst (v := (0 : Int32)) hx hb dX0_pressed_1 (by decide) ?_
  refine lv_iconst (v := (2 : Int32)) hx hb dX0_pressed_2 (by decide) ?_
  replace z := ob z
  obtain ⟨x1, zx1, z⟩ := z
  refine c_calli hH hS hRM (fun _ _ f1 f2 => va_runS (As := [.int a1, .int (0 : Int32), .int (2 : Int32)]) (rest := []) S (metX0_is zx1) (va_cwS 3 hts (lw_S q1296 q924 q167 q925) rfl rfl rfl (by decide +kernel) ⟨(Nat.le_of_ble_eq_true rfl), (Nat.le_of_ble_eq_true rfl)⟩) (c_pre hG hH hS) rfl rfl hl.1 rfl (lv_room (Nat.le_of_ble_eq_true rfl)) dX0_pressed_3 ⟨f1, f2⟩) (fun H locs hH hS => ?_)
  refine lv_if_eq (tgt := 25) hx hb dX0_pressed_6 (by decide) (fun c2 => ?_) (fun c2 => ?_)
  · replace z := it c2 z
    refine lv_iconst (v := (-1 : Int32)) hx hb dX0_pressed_25 (by decide) ?_
    exact c_iret S hr hlk rfl hH hS z dX0_pressed_26
  replace z := ie c2 z
  refine c_aload_n hx hb dX0_pressed_9 rfl (lv_at hl 0 rfl) ?_
  refine c_aload_n hx hb dX0_pressed_10 rfl (lv_at hl 0 rfl) ?_
  replace z := ob z
  obtain ⟨b3, zb3, z⟩ := z
  obtain ⟨yb3, zb3⟩ := rcv_e zb3
  replace z := ob z
  obtain ⟨x4, zx4, z⟩ := z
  refine c_calli hH hS hRM (fun _ _ f1 f2 => va_runV (b := b3) (As := []) (rest := [va_rf (some a0)]) S (metX0_lastHour zx4) (cwV 0 hts (lw_V q1596 q1598 qs57 q167 q1599) rfl rfl rfl (by decide +kernel) ⟨(Nat.le_of_ble_eq_true rfl), (Nat.le_of_ble_eq_true rfl)⟩) (c_preV hG hH hS (ci := 0) rfl zb3) rfl rfl hl.1 (by rw [yb3]; rfl) (lv_room (Nat.le_of_ble_eq_true rfl)) dX0_pressed_11 ⟨f1, f2⟩) (fun H locs hH hS => ?_)
  refine lv_iconst (v := (1 : Int32)) hx hb dX0_pressed_14 (by decide) ?_
  refine lv_iadd hx hb dX0_pressed_15 ?_
  refine lv_iconst (v := (0 : Int32)) hx hb dX0_pressed_16 (by decide) ?_
  refine lv_bipush (v := (24 : Int32)) hx hb dX0_pressed_17 (by decide) ?_
  replace z := ob z
  obtain ⟨b5, zb5, z⟩ := z
  obtain ⟨yb5, zb5⟩ := rcv_e zb5
  replace z := ob z
  obtain ⟨x6, zx6, z⟩ := z
  refine c_calli hH hS hRM (fun _ _ f1 f2 => va_runV (b := b5) (As := [.int (x4 + (1 : Int32)), .int (0 : Int32), .int (24 : Int32)]) (rest := []) S (metX0_isAhead zx6) (cwV 3 hts (lw_V q1483 q1485 qs47 q167 q1486) rfl rfl rfl (by decide +kernel) ⟨(Nat.le_of_ble_eq_true rfl), (Nat.le_of_ble_eq_true rfl)⟩) (c_preV hG hH hS (ci := 0) rfl zb5) rfl rfl hl.1 (by rw [yb5]; rfl) (lv_room (Nat.le_of_ble_eq_true rfl)) dX0_pressed_19 ⟨f1, f2⟩) (fun H locs hH hS => ?_)
  refine lv_if_ne (tgt := 27) hx hb dX0_pressed_22 (by decide) (fun c7 => ?_) (fun c7 => ?_)
  rotate_left 1
  · replace z := it c7 z
    refine lv_iconst (v := (-1 : Int32)) hx hb dX0_pressed_25 (by decide) ?_
    exact c_iret S hr hlk rfl hH hS z dX0_pressed_26
  replace z := ie c7 z
  refine lv_iconst (v := (0 : Int32)) hx hb dX0_pressed_27 (by decide) ?_
  refine lv_istore_n (lv' := [(2, .int (0 : Int32)), (0, va_rf (some a0)), (1, .int a1)]) hx hb dX0_pressed_28 rfl hl (by decide) rfl (fun ls hl => ?_)
  refine lv_iconst (v := (0 : Int32)) hx hb dX0_pressed_29 (by decide) ?_
  refine lv_istore_n (lv' := [(3, .int (0 : Int32)), (2, .int (0 : Int32)), (0, va_rf (some a0)), (1, .int a1)]) hx hb dX0_pressed_30 rfl hl (by decide) rfl (fun ls hl => ?_)
  refine lv_iconst (v := (0 : Int32)) hx hb dX0_pressed_31 (by decide) ?_
  refine lv_istore (lv' := [(4, .int (0 : Int32)), (3, .int (0 : Int32)), (2, .int (0 : Int32)), (0, va_rf (some a0)), (1, .int a1)]) hx hb dX0_pressed_32 hl (by decide) rfl (fun ls hl => ?_)
  refine lv_iconst (v := (0 : Int32)) hx hb dX0_pressed_34 (by decide) ?_
  refine lv_istore (lv' := [(5, .int (0 : Int32)), (4, .int (0 : Int32)), (3, .int (0 : Int32)), (2, .int (0 : Int32)), (0, va_rf (some a0)), (1, .int a1)]) hx hb dX0_pressed_35 hl (by decide) rfl (fun ls hl => ?_)
  exact wX0_pressed_37 S hr hlk hnm hG hRM FU h a1 (0 : Int32) (0 : Int32) (0 : Int32) (0 : Int32) z _ _ hH hS _ (lv_sub hl [4, 5, 3, 2, 1, 0] rfl)
/-! FourOnOne.show(II)J -/
def fX0_show_35 (K : KE) (a0 : Nat) (h : HS) : Option (HS × Int64) :=
  (rcv K h (some a0) 0).bind fun b1 =>
  (fX0_refuses K h b1 (2 : Int32)).bind fun x2 =>
  some (x2.1, (-1000000000000000 : Int64))
def fX0_show (K : KE) (h : HS) (a0 : Nat) (a1 : Int32) (a2 : Int32) : Option (HS × Int64) :=
  (rcv K h (some a0) 0).bind fun b1 =>
  (fX0_isPerson K h b1 a1).bind fun x2 =>
  if x2 = 0 then
    fX0_show_35 K a0 h
  else
  (rcv K h (some a0) 0).bind fun b4 =>
  (fX0_isFilm K h b4 a2).bind fun x5 =>
  if x5 = 0 then
    fX0_show_35 K a0 h
  else
  (gR K h (some a0) 0 9).bind fun v7 =>
  (gR K h (some a0) 0 9).bind fun v8 =>
  (rcv K h v8 5).bind fun b9 =>
  (fX5_profile K h b9 a1).bind fun x10 =>
  (rcv K h v7 5).bind fun b11 =>
  (fX5_isOver K h b11 x10 a2).bind fun x12 =>
  if x12 = 0 then
    (rcv K h (some a0) 0).bind fun b14 =>
    (fX0_keeps K h b14).bind fun x15 =>
    (gR K x15 (some a0) 0 9).bind fun v16 =>
    (rcv K x15 v16 5).bind fun b17 =>
    (fX5_sees K x15 b17 a1 a2).bind fun x18 =>
    some (x18.1, x18.2.toInt64)
  else
  fX0_show_35 K a0 h
set_option maxHeartbeats 4000000 in
theorem wX0_show_35 {p : Program} {l : Launch} {e : Env} {s : State} {m : MethodId} {args : Array Value} {below : List Frame} {meth : Method} {c : Code} {A : Nat → Prop} {D : va_G} {ac : Nat → ClassId} {K : KE} {h0 : HS} {a0 : Nat} (S : CallFix p m c cX0_show 3 s args lw_all RX0) (hr : meth.sig.returnType = some .long) (hlk : meth.locks = false) (hnm : meth.name = "show") (hG : GK A D ac K s) (hRM : RM K s (rmC 87 4318 K h0)) {x : HS × Int64} : ∀ (h : HS), fX0_show_35 K a0 h = some x → cGo p l e (rmC 87 4318 K h0) s m args below meth c A D ac K (MQ below (cQl A D ac K x) args s (K.2.2.1 - h0.2.1) (K.2.2.2 - h0.2.2) A) 3 35 [(0, va_rf (some a0))] [] h := by
  obtain ⟨hx, hb, hml, hown, hts⟩ := id S
  intro h z H locs hH hS ls hl
  unfold fX0_show_35 at z
  refine c_aload_n hx hb dX0_show_35 rfl (lv_at hl 0 rfl) ?_
  refine lv_iconst (v := (2 : Int32)) hx hb dX0_show_36 (by decide) ?_
  replace z := ob z
  obtain ⟨b1, zb1, z⟩ := z
  obtain ⟨yb1, zb1⟩ := rcv_e zb1
  replace z := ob z
  obtain ⟨x2, zx2, z⟩ := z
  refine c_calli hH hS hRM (fun _ _ f1 f2 => va_runV (b := b1) (As := [.int (2 : Int32)]) (rest := []) S (metX0_refuses zx2) (cwV 1 hts (lw_V q552 q554 qs1 q167 q555) rfl rfl rfl (by decide +kernel) ⟨(Nat.le_of_ble_eq_true rfl), (Nat.le_of_ble_eq_true rfl)⟩) (c_preV hG hH hS (ci := 0) rfl zb1) rfl rfl hl.1 (by rw [yb1]; rfl) (lv_room (Nat.le_of_ble_eq_true rfl)) dX0_show_37 ⟨f1, f2⟩) (fun H locs hH hS => ?_)
  refine lv_pop hx hb dX0_show_40 rfl ?_
  refine lv_ldc2 hx hb hown (hts _ q1527) dX0_show_41 ?_
  exact c_lret S hr hlk hH hS z dX0_show_44
set_option maxHeartbeats 4000000 in
theorem metX0_show {l : Launch} {A : Nat → Prop} {D : va_G} {ac : Nat → ClassId} {K : KE} {h : HS} {a0 : Nat} {a1 : Int32} {a2 : Int32} {x : HS × Int64} (z : fX0_show K h a0 a1 a2 = some x) : Met l yX0_show (ws_ yX0_show cX0_show 3 (some .long)) (rmC 87 4318 K h) (cP A D ac K h [va_rf (some a0), .int a1, .int a2]) (cQl A D ac K x) (K.2.2.1 - h.2.1) (K.2.2.2 - h.2.2) A := by
  refine c_entry (plainFor_of_name (by decide)) (Nat.le_of_ble_eq_true rfl) ?_
  intro p e s m below meth c S hr hlk hnm hG hRM hH hS ls hl
  replace hl : lv_has ls 3 [(0, va_rf (some a0)), (1, .int a1), (2, .int a2)] := hl
  replace hnm : meth.name = "show" := hnm
  replace S : CallFix p m c cX0_show 3 s _ lw_all RX0 := S
  obtain ⟨hx, hb, hml, hown, hts⟩ := id S
  unfold fX0_show at z
  refine c_aload_n hx hb dX0_show_0 rfl (lv_at hl 0 rfl) ?_
  refine lv_iload_n hx hb dX0_show_1 rfl (lv_at hl 1 rfl) ?_
  replace z := ob z
  obtain ⟨b1, zb1, z⟩ := z
  obtain ⟨yb1, zb1⟩ := rcv_e zb1
  replace z := ob z
  obtain ⟨x2, zx2, z⟩ := z
  refine c_calli hH hS hRM (fun _ _ f1 f2 => va_runV (b := b1) (As := [.int a1]) (rest := []) S (metX0_isPerson zx2) (cwV 1 hts (lw_V q1340 q1342 qs42 q167 q1343) rfl rfl rfl (by decide +kernel) ⟨(Nat.le_of_ble_eq_true rfl), (Nat.le_of_ble_eq_true rfl)⟩) (c_preV hG hH hS (ci := 0) rfl zb1) rfl rfl hl.1 (by rw [yb1]; rfl) (lv_room (Nat.le_of_ble_eq_true rfl)) dX0_show_2 ⟨f1, f2⟩) (fun H locs hH hS => ?_)
  refine lv_if_eq (tgt := 35) hx hb dX0_show_5 (by decide) (fun c3 => ?_) (fun c3 => ?_)
  · replace z := it c3 z
    exact wX0_show_35 S hr hlk hnm hG hRM h z _ _ hH hS _ (lv_sub hl [0] rfl)
  replace z := ie c3 z
  refine c_aload_n hx hb dX0_show_8 rfl (lv_at hl 0 rfl) ?_
  refine lv_iload_n hx hb dX0_show_9 rfl (lv_at hl 2 rfl) ?_
  replace z := ob z
  obtain ⟨b4, zb4, z⟩ := z
  obtain ⟨yb4, zb4⟩ := rcv_e zb4
  replace z := ob z
  obtain ⟨x5, zx5, z⟩ := z
  refine c_calli hH hS hRM (fun _ _ f1 f2 => va_runV (b := b4) (As := [.int a2]) (rest := []) S (metX0_isFilm zx5) (cwV 1 hts (lw_V q1323 q1325 qs39 q167 q1326) rfl rfl rfl (by decide +kernel) ⟨(Nat.le_of_ble_eq_true rfl), (Nat.le_of_ble_eq_true rfl)⟩) (c_preV hG hH hS (ci := 0) rfl zb4) rfl rfl hl.1 (by rw [yb4]; rfl) (lv_room (Nat.le_of_ble_eq_true rfl)) dX0_show_10 ⟨f1, f2⟩) (fun H locs hH hS => ?_)
  refine lv_if_eq (tgt := 35) hx hb dX0_show_13 (by decide) (fun c6 => ?_) (fun c6 => ?_)
  · replace z := it c6 z
    exact wX0_show_35 S hr hlk hnm hG hRM h z _ _ hH hS _ (lv_sub hl [0] rfl)
  replace z := ie c6 z
  refine c_aload_n hx hb dX0_show_16 rfl (lv_at hl 0 rfl) ?_
  replace z := ob z
  obtain ⟨v7, zv7, z⟩ := z
  obtain ⟨fsv7, yv7, zv7⟩ := gR_e zv7
  refine c_get S hG hH (ci := 0) (k := 9) rfl in_X0 (Nat.le_of_ble_eq_true rfl) q489 (fun _ y => y) yv7 zv7 dX0_show_17 ?_
  refine c_aload_n hx hb dX0_show_20 rfl (lv_at hl 0 rfl) ?_
  replace z := ob z
  obtain ⟨v8, zv8, z⟩ := z
  obtain ⟨fsv8, yv8, zv8⟩ := gR_e zv8
  refine c_get S hG hH (ci := 0) (k := 9) rfl in_X0 (Nat.le_of_ble_eq_true rfl) q489 (fun _ y => y) yv8 zv8 dX0_show_21 ?_
  refine lv_iload_n hx hb dX0_show_24 rfl (lv_at hl 1 rfl) ?_
  replace z := ob z
  obtain ⟨b9, zb9, z⟩ := z
  obtain ⟨yb9, zb9⟩ := rcv_e zb9
  replace z := ob z
  obtain ⟨x10, zx10, z⟩ := z
  refine c_calli hH hS hRM (fun _ _ f1 f2 => va_runV (b := b9) (As := [.int a1]) (rest := [va_rf v7]) S (metX5_profile zx10) (cwV 1 hts (lw_V q1552 q1367 q1368 q178 q1369) rfl rfl rfl (by decide +kernel) ⟨(Nat.le_of_ble_eq_true rfl), (Nat.le_of_ble_eq_true rfl)⟩) (c_preV hG hH hS (ci := 5) rfl zb9) rfl rfl hl.1 (by rw [yb9]; rfl) (lv_room (by simp [ct_r, ct_i, ct_l])) dX0_show_25 ⟨f1, f2⟩) (fun H locs hH hS => ?_)
  refine lv_iload_n hx hb dX0_show_28 rfl (lv_at hl 2 rfl) ?_
  replace z := ob z
  obtain ⟨b11, zb11, z⟩ := z
  obtain ⟨yb11, zb11⟩ := rcv_e zb11
  replace z := ob z
  obtain ⟨x12, zx12, z⟩ := z
  refine c_calli hH hS hRM (fun _ _ f1 f2 => va_runV (b := b11) (As := [.int x10, .int a2]) (rest := []) S (metX5_isOver zx12) (cwV 2 hts (lw_V q1559 q1377 q1378 q178 q1379) rfl rfl rfl (by decide +kernel) ⟨(Nat.le_of_ble_eq_true rfl), (Nat.le_of_ble_eq_true rfl)⟩) (c_preV hG hH hS (ci := 5) rfl zb11) rfl rfl hl.1 (by rw [yb11]; rfl) (lv_room (Nat.le_of_ble_eq_true rfl)) dX0_show_29 ⟨f1, f2⟩) (fun H locs hH hS => ?_)
  refine lv_if_eq (tgt := 45) hx hb dX0_show_32 (by decide) (fun c13 => ?_) (fun c13 => ?_)
  rotate_left 1
  · replace z := ie c13 z
    exact wX0_show_35 S hr hlk hnm hG hRM h z _ _ hH hS _ (lv_sub hl [0] rfl)
  replace z := it c13 z
  refine c_aload_n hx hb dX0_show_45 rfl (lv_at hl 0 rfl) ?_
  replace z := ob z
  obtain ⟨b14, zb14, z⟩ := z
  obtain ⟨yb14, zb14⟩ := rcv_e zb14
  replace z := ob z
  obtain ⟨x15, zx15, z⟩ := z
  refine c_callv hH hS hRM (fun _ _ f1 f2 => va_runV (b := b14) (As := []) (rest := []) S (metX0_keeps zx15) (cwV 0 hts (lw_V q1613 q1615 qs59 q167 q1616) rfl rfl rfl (by decide +kernel) ⟨(Nat.le_of_ble_eq_true rfl), (Nat.le_of_ble_eq_true rfl)⟩) (c_preV hG hH hS (ci := 0) rfl zb14) rfl rfl hl.1 (by rw [yb14]; rfl) (lv_room (Nat.le_of_ble_eq_true rfl)) dX0_show_46 ⟨f1, f2⟩) (fun H locs hH hS => ?_)
  refine c_aload_n hx hb dX0_show_49 rfl (lv_at hl 0 rfl) ?_
  replace z := ob z
  obtain ⟨v16, zv16, z⟩ := z
  obtain ⟨fsv16, yv16, zv16⟩ := gR_e zv16
  refine c_get S hG hH (ci := 0) (k := 9) rfl in_X0 (Nat.le_of_ble_eq_true rfl) q489 (fun _ y => y) yv16 zv16 dX0_show_50 ?_
  refine lv_iload_n hx hb dX0_show_53 rfl (lv_at hl 1 rfl) ?_
  refine lv_iload_n hx hb dX0_show_54 rfl (lv_at hl 2 rfl) ?_
  replace z := ob z
  obtain ⟨b17, zb17, z⟩ := z
  obtain ⟨yb17, zb17⟩ := rcv_e zb17
  replace z := ob z
  obtain ⟨x18, zx18, z⟩ := z
  refine c_calli hH hS hRM (fun _ _ f1 f2 => va_runV (b := b17) (As := [.int a1, .int a2]) (rest := []) S (metX5_sees zx18) (cwV 2 hts (lw_V q1560 q1506 q1507 q178 q1508) rfl rfl rfl (by decide +kernel) ⟨(Nat.le_of_ble_eq_true rfl), (Nat.le_of_ble_eq_true rfl)⟩) (c_preV hG hH hS (ci := 5) rfl zb17) rfl rfl hl.1 (by rw [yb17]; rfl) (lv_room (Nat.le_of_ble_eq_true rfl)) dX0_show_55 ⟨f1, f2⟩) (fun H locs hH hS => ?_)
  refine lv_i2l (v := x18.2.toInt64) hx hb dX0_show_58 rfl ?_
  exact c_lret S hr hlk hH hS z dX0_show_59
/-! FourOnOne.hours(I)I -/
def fX0_hours_25 (K : KE) (a0 : Nat) : Nat → HS → Int32 → Int32 → Int32 → Option (HS × Int32)
  | 0, _, _, _, _ => none
  | n + 1, h, a1, a2, a3 =>
    if a1 ≤ a3 then
      some (h, a2)
    else
    (gR K h (some a0) 0 9).bind fun v2 =>
    (rcv K h v2 5).bind fun b3 =>
    (fX5_passes K h b3).bind fun x4 =>
    fX0_hours_25 K a0 n x4.1 a1 (a2 + x4.2) (a3 + (1 : Int32))
def fX0_hours (K : KE) (h : HS) (a0 : Nat) (a1 : Int32) : Option (HS × Int32) :=
  (rcv K h (some a0) 0).bind fun b1 =>
  (fX0_isAhead K h b1 a1 (1 : Int32) (100 : Int32)).bind fun x2 =>
  if x2 = 0 then
    (rcv K h (some a0) 0).bind fun b6 =>
    (fX0_refuses K h b6 (3 : Int32)).bind fun x7 =>
    some (x7.1, x7.2)
  else
  (rcv K h (some a0) 0).bind fun b4 =>
  (fX0_keeps K h b4).bind fun x5 =>
  fX0_hours_25 K a0 FU x5 a1 (0 : Int32) (0 : Int32)
set_option maxHeartbeats 4000000 in
theorem wX0_hours_25 {p : Program} {l : Launch} {e : Env} {s : State} {m : MethodId} {args : Array Value} {below : List Frame} {meth : Method} {c : Code} {A : Nat → Prop} {D : va_G} {ac : Nat → ClassId} {K : KE} {h0 : HS} {a0 : Nat} (S : CallFix p m c cX0_hours 4 s args lw_all RX0) (hr : meth.sig.returnType = some .int) (hlk : meth.locks = false) (hnm : meth.name = "hours") (hG : GK A D ac K s) (hRM : RM K s (rmC 168 8438 K h0)) {x : HS × Int32} : ∀ (n : Nat) (h : HS) (a1 : Int32) (a2 : Int32) (a3 : Int32), fX0_hours_25 K a0 n h a1 a2 a3 = some x → cGo p l e (rmC 168 8438 K h0) s m args below meth c A D ac K (MQ below (cQi A D ac K x) args s (K.2.2.1 - h0.2.1) (K.2.2.2 - h0.2.2) A) 4 25 [(0, va_rf (some a0)), (1, .int a1), (2, .int a2), (3, .int a3)] [] h := by
  obtain ⟨hx, hb, hml, hown, hts⟩ := id S
  intro n
  induction n with
  | zero => intro h a1 a2 a3 z; cases z
  | succ n ih =>
    intro h a1 a2 a3 z H locs hH hS ls hl
    rw [fX0_hours_25] at z
    refine lv_iload_n hx hb dX0_hours_25 rfl (lv_at hl 3 rfl) ?_
    refine lv_iload_n hx hb dX0_hours_26 rfl (lv_at hl 1 rfl) ?_
    refine lv_icmp_ge (tgt := 46) hx hb dX0_hours_27 (by decide) (fun c1 => ?_) (fun c1 => ?_)
    · replace z := it c1 z
      refine lv_iload_n hx hb dX0_hours_46 rfl (lv_at hl 2 rfl) ?_
      exact c_iret S hr hlk rfl hH hS z dX0_hours_47
    replace z := ie c1 z
    refine lv_iload_n hx hb dX0_hours_30 rfl (lv_at hl 2 rfl) ?_
    refine c_aload_n hx hb dX0_hours_31 rfl (lv_at hl 0 rfl) ?_
    replace z := ob z
    obtain ⟨v2, zv2, z⟩ := z
    obtain ⟨fsv2, yv2, zv2⟩ := gR_e zv2
    refine c_get S hG hH (ci := 0) (k := 9) rfl in_X0 (Nat.le_of_ble_eq_true rfl) q489 (fun _ y => y) yv2 zv2 dX0_hours_32 ?_
    replace z := ob z
    obtain ⟨b3, zb3, z⟩ := z
    obtain ⟨yb3, zb3⟩ := rcv_e zb3
    replace z := ob z
    obtain ⟨x4, zx4, z⟩ := z
    refine c_calli hH hS hRM (fun _ _ f1 f2 => va_runV (b := b3) (As := []) (rest := [.int a2]) S (metX5_passes zx4) (cwV 0 hts (lw_V q1553 q1496 q1497 q178 q1498) rfl rfl rfl (by decide +kernel) ⟨(Nat.le_of_ble_eq_true rfl), (Nat.le_of_ble_eq_true rfl)⟩) (c_preV hG hH hS (ci := 5) rfl zb3) rfl rfl hl.1 (by rw [yb3]; rfl) (lv_room (Nat.le_of_ble_eq_true rfl)) dX0_hours_35 ⟨f1, f2⟩) (fun H locs hH hS => ?_)
    refine lv_iadd hx hb dX0_hours_38 ?_
    refine lv_istore_n (lv' := [(2, .int (a2 + x4.2)), (0, va_rf (some a0)), (1, .int a1), (3, .int a3)]) hx hb dX0_hours_39 rfl hl (by decide) rfl (fun ls hl => ?_)
    refine lv_iinc (v := (a3 + (1 : Int32))) (lv' := [(3, .int (a3 + (1 : Int32))), (2, .int (a2 + x4.2)), (0, va_rf (some a0)), (1, .int a1)]) hx hb dX0_hours_40 hl (k := 3) rfl rfl (by decide) rfl (fun ls hl => ?_)
    refine lv_goto (tgt := 25) hx hb dX0_hours_43 (by decide) ?_
    exact ih x4.1 a1 (a2 + x4.2) (a3 + (1 : Int32)) z _ _ hH hS _ (lv_sub hl [2, 3, 1, 0] rfl)
set_option maxHeartbeats 4000000 in
theorem metX0_hours {l : Launch} {A : Nat → Prop} {D : va_G} {ac : Nat → ClassId} {K : KE} {h : HS} {a0 : Nat} {a1 : Int32} {x : HS × Int32} (z : fX0_hours K h a0 a1 = some x) : Met l yX0_hours (ws_ yX0_hours cX0_hours 4 (some .int)) (rmC 168 8438 K h) (cP A D ac K h [va_rf (some a0), .int a1]) (cQi A D ac K x) (K.2.2.1 - h.2.1) (K.2.2.2 - h.2.2) A := by
  refine c_entry (plainFor_of_name (by decide)) (Nat.le_of_ble_eq_true rfl) ?_
  intro p e s m below meth c S hr hlk hnm hG hRM hH hS ls hl
  replace hl : lv_has ls 4 [(0, va_rf (some a0)), (1, .int a1)] := hl
  replace hnm : meth.name = "hours" := hnm
  replace S : CallFix p m c cX0_hours 4 s _ lw_all RX0 := S
  obtain ⟨hx, hb, hml, hown, hts⟩ := id S
  unfold fX0_hours at z
  refine c_aload_n hx hb dX0_hours_0 rfl (lv_at hl 0 rfl) ?_
  refine lv_iload_n hx hb dX0_hours_1 rfl (lv_at hl 1 rfl) ?_
  refine lv_iconst (v := (1 : Int32)) hx hb dX0_hours_2 (by decide) ?_
  refine lv_bipush (v := (100 : Int32)) hx hb dX0_hours_3 (by decide) ?_
  replace z := ob z
  obtain ⟨b1, zb1, z⟩ := z
  obtain ⟨yb1, zb1⟩ := rcv_e zb1
  replace z := ob z
  obtain ⟨x2, zx2, z⟩ := z
  refine c_calli hH hS hRM (fun _ _ f1 f2 => va_runV (b := b1) (As := [.int a1, .int (1 : Int32), .int (100 : Int32)]) (rest := []) S (metX0_isAhead zx2) (cwV 3 hts (lw_V q1483 q1485 qs47 q167 q1486) rfl rfl rfl (by decide +kernel) ⟨(Nat.le_of_ble_eq_true rfl), (Nat.le_of_ble_eq_true rfl)⟩) (c_preV hG hH hS (ci := 0) rfl zb1) rfl rfl hl.1 (by rw [yb1]; rfl) (lv_room (Nat.le_of_ble_eq_true rfl)) dX0_hours_5 ⟨f1, f2⟩) (fun H locs hH hS => ?_)
  refine lv_if_ne (tgt := 17) hx hb dX0_hours_8 (by decide) (fun c3 => ?_) (fun c3 => ?_)
  rotate_left 1
  · replace z := it c3 z
    refine c_aload_n hx hb dX0_hours_11 rfl (lv_at hl 0 rfl) ?_
    refine lv_iconst (v := (3 : Int32)) hx hb dX0_hours_12 (by decide) ?_
    replace z := ob z
    obtain ⟨b6, zb6, z⟩ := z
    obtain ⟨yb6, zb6⟩ := rcv_e zb6
    replace z := ob z
    obtain ⟨x7, zx7, z⟩ := z
    refine c_calli hH hS hRM (fun _ _ f1 f2 => va_runV (b := b6) (As := [.int (3 : Int32)]) (rest := []) S (metX0_refuses zx7) (cwV 1 hts (lw_V q552 q554 qs1 q167 q555) rfl rfl rfl (by decide +kernel) ⟨(Nat.le_of_ble_eq_true rfl), (Nat.le_of_ble_eq_true rfl)⟩) (c_preV hG hH hS (ci := 0) rfl zb6) rfl rfl hl.1 (by rw [yb6]; rfl) (lv_room (Nat.le_of_ble_eq_true rfl)) dX0_hours_13 ⟨f1, f2⟩) (fun H locs hH hS => ?_)
    exact c_iret S hr hlk rfl hH hS z dX0_hours_16
  replace z := ie c3 z
  refine c_aload_n hx hb dX0_hours_17 rfl (lv_at hl 0 rfl) ?_
  replace z := ob z
  obtain ⟨b4, zb4, z⟩ := z
  obtain ⟨yb4, zb4⟩ := rcv_e zb4
  replace z := ob z
  obtain ⟨x5, zx5, z⟩ := z
  refine c_callv hH hS hRM (fun _ _ f1 f2 => va_runV (b := b4) (As := []) (rest := []) S (metX0_keeps zx5) (cwV 0 hts (lw_V q1613 q1615 qs59 q167 q1616) rfl rfl rfl (by decide +kernel) ⟨(Nat.le_of_ble_eq_true rfl), (Nat.le_of_ble_eq_true rfl)⟩) (c_preV hG hH hS (ci := 0) rfl zb4) rfl rfl hl.1 (by rw [yb4]; rfl) (lv_room (Nat.le_of_ble_eq_true rfl)) dX0_hours_18 ⟨f1, f2⟩) (fun H locs hH hS => ?_)
  refine lv_iconst (v := (0 : Int32)) hx hb dX0_hours_21 (by decide) ?_
  refine lv_istore_n (lv' := [(2, .int (0 : Int32)), (0, va_rf (some a0)), (1, .int a1)]) hx hb dX0_hours_22 rfl hl (by decide) rfl (fun ls hl => ?_)
  refine lv_iconst (v := (0 : Int32)) hx hb dX0_hours_23 (by decide) ?_
  refine lv_istore_n (lv' := [(3, .int (0 : Int32)), (2, .int (0 : Int32)), (0, va_rf (some a0)), (1, .int a1)]) hx hb dX0_hours_24 rfl hl (by decide) rfl (fun ls hl => ?_)
  exact wX0_hours_25 S hr hlk hnm hG hRM FU x5 a1 (0 : Int32) (0 : Int32) z _ _ hH hS _ (lv_sub hl [2, 3, 1, 0] rfl)
/-! FourOnOne$State.isStranger(I)Z -/
def fX5_isStranger (K : KE) (h : HS) (a0 : Nat) (a1 : Int32) : Option (HS × Int32) :=
  (rcv K h (some a0) 5).bind fun b1 =>
  (fX5_isOver K h b1 (0 : Int32) a1).bind fun x2 =>
  if x2 = 0 then
    (rcv K h (some a0) 5).bind fun b4 =>
    (fX5_tells K h b4 (9 : Int32) a1).bind fun x5 =>
    (rcv K x5 (some a0) 5).bind fun b6 =>
    (fX5_learns K x5 b6 (0 : Int32) a1).bind fun x7 =>
    some (x7, (1 : Int32))
  else
  some (h, (0 : Int32))
set_option maxHeartbeats 4000000 in
theorem metX5_isStranger {l : Launch} {A : Nat → Prop} {D : va_G} {ac : Nat → ClassId} {K : KE} {h : HS} {a0 : Nat} {a1 : Int32} {x : HS × Int32} (z : fX5_isStranger K h a0 a1 = some x) : Met l yX5_isStranger (ws_ yX5_isStranger cX5_isStranger 2 (some .boolean)) (rmC 86 4295 K h) (cP A D ac K h [va_rf (some a0), .int a1]) (cQi A D ac K x) (K.2.2.1 - h.2.1) (K.2.2.2 - h.2.2) A := by
  refine c_entry (plainFor_of_name (by decide)) (Nat.le_of_ble_eq_true rfl) ?_
  intro p e s m below meth c S hr hlk hnm hG hRM hH hS ls hl
  replace hl : lv_has ls 2 [(0, va_rf (some a0)), (1, .int a1)] := hl
  replace hnm : meth.name = "isStranger" := hnm
  replace S : CallFix p m c cX5_isStranger 2 s _ lw_all RX5 := S
  obtain ⟨hx, hb, hml, hown, hts⟩ := id S
  unfold fX5_isStranger at z
  refine c_aload_n hx hb dX5_isStranger_0 rfl (lv_at hl 0 rfl) ?_
  refine lv_iconst (v := (0 : Int32)) hx hb dX5_isStranger_1 (by decide) ?_
  refine lv_iload_n hx hb dX5_isStranger_2 rfl (lv_at hl 1 rfl) ?_
  replace z := ob z
  obtain ⟨b1, zb1, z⟩ := z
  obtain ⟨yb1, zb1⟩ := rcv_e zb1
  replace z := ob z
  obtain ⟨x2, zx2, z⟩ := z
  refine c_calli hH hS hRM (fun _ _ f1 f2 => va_runV (b := b1) (As := [.int (0 : Int32), .int a1]) (rest := []) S (metX5_isOver zx2) (cwV 2 hts (lw_V q1376 q1377 q1378 q178 q1379) rfl rfl rfl (by decide +kernel) ⟨(Nat.le_of_ble_eq_true rfl), (Nat.le_of_ble_eq_true rfl)⟩) (c_preV hG hH hS (ci := 5) rfl zb1) rfl rfl hl.1 (by rw [yb1]; rfl) (lv_room (Nat.le_of_ble_eq_true rfl)) dX5_isStranger_3 ⟨f1, f2⟩) (fun H locs hH hS => ?_)
  refine lv_if_eq (tgt := 11) hx hb dX5_isStranger_6 (by decide) (fun c3 => ?_) (fun c3 => ?_)
  rotate_left 1
  · replace z := ie c3 z
    refine lv_iconst (v := (0 : Int32)) hx hb dX5_isStranger_9 (by decide) ?_
    exact c_iret S hr hlk rfl hH hS z dX5_isStranger_10
  replace z := it c3 z
  refine c_aload_n hx hb dX5_isStranger_11 rfl (lv_at hl 0 rfl) ?_
  refine lv_bipush (v := (9 : Int32)) hx hb dX5_isStranger_12 (by decide) ?_
  refine lv_iload_n hx hb dX5_isStranger_14 rfl (lv_at hl 1 rfl) ?_
  replace z := ob z
  obtain ⟨b4, zb4, z⟩ := z
  obtain ⟨yb4, zb4⟩ := rcv_e zb4
  replace z := ob z
  obtain ⟨x5, zx5, z⟩ := z
  refine c_callv hH hS hRM (fun _ _ f1 f2 => va_runV (b := b4) (As := [.int (9 : Int32), .int a1]) (rest := []) S (metX5_tells zx5) (cwV 2 hts (lw_V q1509 q1511 qs49 q178 q1512) rfl rfl rfl (by decide +kernel) ⟨(Nat.le_of_ble_eq_true rfl), (Nat.le_of_ble_eq_true rfl)⟩) (c_preV hG hH hS (ci := 5) rfl zb4) rfl rfl hl.1 (by rw [yb4]; rfl) (lv_room (Nat.le_of_ble_eq_true rfl)) dX5_isStranger_15 ⟨f1, f2⟩) (fun H locs hH hS => ?_)
  refine c_aload_n hx hb dX5_isStranger_18 rfl (lv_at hl 0 rfl) ?_
  refine lv_iconst (v := (0 : Int32)) hx hb dX5_isStranger_19 (by decide) ?_
  refine lv_iload_n hx hb dX5_isStranger_20 rfl (lv_at hl 1 rfl) ?_
  replace z := ob z
  obtain ⟨b6, zb6, z⟩ := z
  obtain ⟨yb6, zb6⟩ := rcv_e zb6
  replace z := ob z
  obtain ⟨x7, zx7, z⟩ := z
  refine c_callv hH hS hRM (fun _ _ f1 f2 => va_runV (b := b6) (As := [.int (0 : Int32), .int a1]) (rest := []) S (metX5_learns zx7) (cwV 2 hts (lw_V q1513 q1515 qs50 q178 q1516) rfl rfl rfl (by decide +kernel) ⟨(Nat.le_of_ble_eq_true rfl), (Nat.le_of_ble_eq_true rfl)⟩) (c_preV hG hH hS (ci := 5) rfl zb6) rfl rfl hl.1 (by rw [yb6]; rfl) (lv_room (Nat.le_of_ble_eq_true rfl)) dX5_isStranger_21 ⟨f1, f2⟩) (fun H locs hH hS => ?_)
  refine lv_iconst (v := (1 : Int32)) hx hb dX5_isStranger_24 (by decide) ?_
  exact c_iret S hr hlk rfl hH hS z dX5_isStranger_25
/-! FourOnOne.chance(I)I -/
def fX0_chance_79 (K : KE) (a0 : Nat) (k25 : HS → Int32 → Int32 → Int32 → Option (HS × Int32)) (h : HS) (a1 : Int32) (a2 : Int32) (a3 : Int32) : Option (HS × Int32) :=
  (gR K h (some a0) 0 9).bind fun v1 =>
  (rcv K h v1 5).bind fun b2 =>
  (fX5_passes K h b2).bind fun x3 =>
  k25 x3.1 a1 a2 (a3 + (1 : Int32))
def fX0_chance_77 (K : KE) (a0 : Nat) (k25 : HS → Int32 → Int32 → Int32 → Option (HS × Int32)) (h : HS) (a1 : Int32) (a3 : Int32) (t0 : Int32) (t1 : Int32) : Option (HS × Int32) :=
  fX0_chance_79 K a0 k25 h a1 (t0 + t1) a3
def fX0_chance_25 (K : KE) (a0 : Nat) : Nat → HS → Int32 → Int32 → Int32 → Option (HS × Int32)
  | 0, _, _, _, _ => none
  | n + 1, h, a1, a2, a3 =>
    if a1 ≤ a3 then
      some (h, a2)
    else
    (rcv K h (some a0) 0).bind fun b2 =>
    (fX0_draw K h b2 (100 : Int32)).bind fun x3 =>
    (gR K x3.1 (some a0) 0 0).bind fun v4 =>
    (gI K x3.1 v4 1 5).bind fun v5 =>
    if v5 ≤ x3.2 then
      fX0_chance_79 K a0 (fun h' b1 b2 b3 => fX0_chance_25 K a0 n h' b1 b2 b3) x3.1 a1 a2 a3
    else
    (rcv K x3.1 (some a0) 0).bind fun b7 =>
    (fX0_films K x3.1 b7).bind fun x8 =>
    if x8 ≤ 0 then
      fX0_chance_79 K a0 (fun h' b1 b2 b3 => fX0_chance_25 K a0 n h' b1 b2 b3) x3.1 a1 a2 a3
    else
    (gR K x3.1 (some a0) 0 9).bind fun v10 =>
    (rcv K x3.1 (some a0) 0).bind fun b11 =>
    (fX0_films K x3.1 b11).bind fun x12 =>
    (rcv K x3.1 (some a0) 0).bind fun b13 =>
    (fX0_draw K x3.1 b13 x12).bind fun x14 =>
    (rcv K x14.1 v10 5).bind fun b15 =>
    (fX5_isStranger K x14.1 b15 x14.2).bind fun x16 =>
    if x16.2 = 0 then
      fX0_chance_77 K a0 (fun h' b1 b2 b3 => fX0_chance_25 K a0 n h' b1 b2 b3) x16.1 a1 a3 a2 (0 : Int32)
    else
    fX0_chance_77 K a0 (fun h' b1 b2 b3 => fX0_chance_25 K a0 n h' b1 b2 b3) x16.1 a1 a3 a2 (1 : Int32)
def fX0_chance (K : KE) (h : HS) (a0 : Nat) (a1 : Int32) : Option (HS × Int32) :=
  (rcv K h (some a0) 0).bind fun b1 =>
  (fX0_isAhead K h b1 a1 (1 : Int32) (100 : Int32)).bind fun x2 =>
  if x2 = 0 then
    (rcv K h (some a0) 0).bind fun b6 =>
    (fX0_refuses K h b6 (3 : Int32)).bind fun x7 =>
    some (x7.1, x7.2)
  else
  (rcv K h (some a0) 0).bind fun b4 =>
  (fX0_keeps K h b4).bind fun x5 =>
  fX0_chance_25 K a0 FU x5 a1 (0 : Int32) (0 : Int32)
set_option maxHeartbeats 4000000 in
theorem wX0_chance_79 {p : Program} {l : Launch} {e : Env} {s : State} {m : MethodId} {args : Array Value} {below : List Frame} {meth : Method} {c : Code} {A : Nat → Prop} {D : va_G} {ac : Nat → ClassId} {K : KE} {h0 : HS} {a0 : Nat} (S : CallFix p m c cX0_chance 4 s args lw_all RX0) (hr : meth.sig.returnType = some .int) (hlk : meth.locks = false) (hnm : meth.name = "chance") (hG : GK A D ac K s) (hRM : RM K s (rmC 168 8438 K h0)) {x : HS × Int32} {k25 : HS → Int32 → Int32 → Int32 → Option (HS × Int32)} (hk25 : ∀ h a1 a2 a3, k25 h a1 a2 a3 = some x → cGo p l e (rmC 168 8438 K h0) s m args below meth c A D ac K (MQ below (cQi A D ac K x) args s (K.2.2.1 - h0.2.1) (K.2.2.2 - h0.2.2) A) 4 25 [(0, va_rf (some a0)), (1, .int a1), (2, .int a2), (3, .int a3)] [] h) : ∀ (h : HS) (a1 : Int32) (a2 : Int32) (a3 : Int32), fX0_chance_79 K a0 k25 h a1 a2 a3 = some x → cGo p l e (rmC 168 8438 K h0) s m args below meth c A D ac K (MQ below (cQi A D ac K x) args s (K.2.2.1 - h0.2.1) (K.2.2.2 - h0.2.2) A) 4 79 [(0, va_rf (some a0)), (1, .int a1), (2, .int a2), (3, .int a3)] [] h := by
  obtain ⟨hx, hb, hml, hown, hts⟩ := id S
  intro h a1 a2 a3 z H locs hH hS ls hl
  unfold fX0_chance_79 at z
  refine c_aload_n hx hb dX0_chance_79 rfl (lv_at hl 0 rfl) ?_
  replace z := ob z
  obtain ⟨v1, zv1, z⟩ := z
  obtain ⟨fsv1, yv1, zv1⟩ := gR_e zv1
  refine c_get S hG hH (ci := 0) (k := 9) rfl in_X0 (Nat.le_of_ble_eq_true rfl) q489 (fun _ y => y) yv1 zv1 dX0_chance_80 ?_
  replace z := ob z
  obtain ⟨b2, zb2, z⟩ := z
  obtain ⟨yb2, zb2⟩ := rcv_e zb2
  replace z := ob z
  obtain ⟨x3, zx3, z⟩ := z
  refine c_calli hH hS hRM (fun _ _ f1 f2 => va_runV (b := b2) (As := []) (rest := []) S (metX5_passes zx3) (cwV 0 hts (lw_V q1553 q1496 q1497 q178 q1498) rfl rfl rfl (by decide +kernel) ⟨(Nat.le_of_ble_eq_true rfl), (Nat.le_of_ble_eq_true rfl)⟩) (c_preV hG hH hS (ci := 5) rfl zb2) rfl rfl hl.1 (by rw [yb2]; rfl) (lv_room (Nat.le_of_ble_eq_true rfl)) dX0_chance_83 ⟨f1, f2⟩) (fun H locs hH hS => ?_)
  refine lv_pop hx hb dX0_chance_86 rfl ?_
  refine lv_iinc (v := (a3 + (1 : Int32))) (lv' := [(3, .int (a3 + (1 : Int32))), (0, va_rf (some a0)), (1, .int a1), (2, .int a2)]) hx hb dX0_chance_87 hl (k := 3) rfl rfl (by decide) rfl (fun ls hl => ?_)
  refine lv_goto (tgt := 25) hx hb dX0_chance_90 (by decide) ?_
  exact hk25 x3.1 a1 a2 (a3 + (1 : Int32)) z _ _ hH hS _ (lv_sub hl [1, 2, 3, 0] rfl)
set_option maxHeartbeats 4000000 in
theorem wX0_chance_77 {p : Program} {l : Launch} {e : Env} {s : State} {m : MethodId} {args : Array Value} {below : List Frame} {meth : Method} {c : Code} {A : Nat → Prop} {D : va_G} {ac : Nat → ClassId} {K : KE} {h0 : HS} {a0 : Nat} (S : CallFix p m c cX0_chance 4 s args lw_all RX0) (hr : meth.sig.returnType = some .int) (hlk : meth.locks = false) (hnm : meth.name = "chance") (hG : GK A D ac K s) (hRM : RM K s (rmC 168 8438 K h0)) {x : HS × Int32} {k25 : HS → Int32 → Int32 → Int32 → Option (HS × Int32)} (hk25 : ∀ h a1 a2 a3, k25 h a1 a2 a3 = some x → cGo p l e (rmC 168 8438 K h0) s m args below meth c A D ac K (MQ below (cQi A D ac K x) args s (K.2.2.1 - h0.2.1) (K.2.2.2 - h0.2.2) A) 4 25 [(0, va_rf (some a0)), (1, .int a1), (2, .int a2), (3, .int a3)] [] h) : ∀ (h : HS) (a1 : Int32) (a3 : Int32) (t0 : Int32) (t1 : Int32), fX0_chance_77 K a0 k25 h a1 a3 t0 t1 = some x → cGo p l e (rmC 168 8438 K h0) s m args below meth c A D ac K (MQ below (cQi A D ac K x) args s (K.2.2.1 - h0.2.1) (K.2.2.2 - h0.2.2) A) 4 77 [(0, va_rf (some a0)), (1, .int a1), (3, .int a3)] [.int t1, .int t0] h := by
  obtain ⟨hx, hb, hml, hown, hts⟩ := id S
  intro h a1 a3 t0 t1 z H locs hH hS ls hl
  unfold fX0_chance_77 at z
  refine lv_iadd hx hb dX0_chance_77 ?_
  refine lv_istore_n (lv' := [(2, .int (t0 + t1)), (0, va_rf (some a0)), (1, .int a1), (3, .int a3)]) hx hb dX0_chance_78 rfl hl (by decide) rfl (fun ls hl => ?_)
  exact wX0_chance_79 S hr hlk hnm hG hRM hk25 h a1 (t0 + t1) a3 z _ _ hH hS _ (lv_sub hl [1, 2, 0, 3] rfl)
set_option maxHeartbeats 4000000 in
theorem wX0_chance_25 {p : Program} {l : Launch} {e : Env} {s : State} {m : MethodId} {args : Array Value} {below : List Frame} {meth : Method} {c : Code} {A : Nat → Prop} {D : va_G} {ac : Nat → ClassId} {K : KE} {h0 : HS} {a0 : Nat} (S : CallFix p m c cX0_chance 4 s args lw_all RX0) (hr : meth.sig.returnType = some .int) (hlk : meth.locks = false) (hnm : meth.name = "chance") (hG : GK A D ac K s) (hRM : RM K s (rmC 168 8438 K h0)) {x : HS × Int32} : ∀ (n : Nat) (h : HS) (a1 : Int32) (a2 : Int32) (a3 : Int32), fX0_chance_25 K a0 n h a1 a2 a3 = some x → cGo p l e (rmC 168 8438 K h0) s m args below meth c A D ac K (MQ below (cQi A D ac K x) args s (K.2.2.1 - h0.2.1) (K.2.2.2 - h0.2.2) A) 4 25 [(0, va_rf (some a0)), (1, .int a1), (2, .int a2), (3, .int a3)] [] h := by
  obtain ⟨hx, hb, hml, hown, hts⟩ := id S
  intro n
  induction n with
  | zero => intro h a1 a2 a3 z; cases z
  | succ n ih =>
    intro h a1 a2 a3 z H locs hH hS ls hl
    rw [fX0_chance_25] at z
    refine lv_iload_n hx hb dX0_chance_25 rfl (lv_at hl 3 rfl) ?_
    refine lv_iload_n hx hb dX0_chance_26 rfl (lv_at hl 1 rfl) ?_
    refine lv_icmp_ge (tgt := 93) hx hb dX0_chance_27 (by decide) (fun c1 => ?_) (fun c1 => ?_)
    · replace z := it c1 z
      refine lv_iload_n hx hb dX0_chance_93 rfl (lv_at hl 2 rfl) ?_
      exact c_iret S hr hlk rfl hH hS z dX0_chance_94
    replace z := ie c1 z
    refine c_aload_n hx hb dX0_chance_30 rfl (lv_at hl 0 rfl) ?_
    refine lv_bipush (v := (100 : Int32)) hx hb dX0_chance_31 (by decide) ?_
    replace z := ob z
    obtain ⟨b2, zb2, z⟩ := z
    obtain ⟨yb2, zb2⟩ := rcv_e zb2
    replace z := ob z
    obtain ⟨x3, zx3, z⟩ := z
    refine c_calli hH hS hRM (fun _ _ f1 f2 => va_runV (b := b2) (As := [.int (100 : Int32)]) (rest := []) S (metX0_draw zx3) (cwV 1 hts (lw_V q1629 q1631 qs60 q167 q1632) rfl rfl rfl (by decide +kernel) ⟨(Nat.le_of_ble_eq_true rfl), (Nat.le_of_ble_eq_true rfl)⟩) (c_preV hG hH hS (ci := 0) rfl zb2) rfl rfl hl.1 (by rw [yb2]; rfl) (lv_room (Nat.le_of_ble_eq_true rfl)) dX0_chance_33 ⟨f1, f2⟩) (fun H locs hH hS => ?_)
    refine c_aload_n hx hb dX0_chance_36 rfl (lv_at hl 0 rfl) ?_
    replace z := ob z
    obtain ⟨v4, zv4, z⟩ := z
    obtain ⟨fsv4, yv4, zv4⟩ := gR_e zv4
    refine c_get S hG hH (ci := 0) (k := 0) rfl in_X0 (Nat.le_of_ble_eq_true rfl) q478 (fun _ y => y) yv4 zv4 dX0_chance_37 ?_
    replace z := ob z
    obtain ⟨v5, zv5, z⟩ := z
    obtain ⟨fsv5, yv5, zv5⟩ := gI_e zv5
    refine c_getN S hG hH (ci := 1) (k := 5) rfl in_X1 (Nat.le_of_ble_eq_true rfl) q262 (fun _ y => y) yv5 zv5 dX0_chance_40 ?_
    refine lv_icmp_ge (tgt := 79) hx hb dX0_chance_43 (by decide) (fun c6 => ?_) (fun c6 => ?_)
    · replace z := it c6 z
      exact wX0_chance_79 S hr hlk hnm hG hRM ih x3.1 a1 a2 a3 z _ _ hH hS _ (lv_sub hl [0, 1, 2, 3] rfl)
    replace z := ie c6 z
    refine c_aload_n hx hb dX0_chance_46 rfl (lv_at hl 0 rfl) ?_
    replace z := ob z
    obtain ⟨b7, zb7, z⟩ := z
    obtain ⟨yb7, zb7⟩ := rcv_e zb7
    replace z := ob z
    obtain ⟨x8, zx8, z⟩ := z
    refine c_calli hH hS hRM (fun _ _ f1 f2 => va_runV (b := b7) (As := []) (rest := []) S (metX0_films zx8) (cwV 0 hts (lw_V q1274 q1276 qs36 q167 q1277) rfl rfl rfl (by decide +kernel) ⟨(Nat.le_of_ble_eq_true rfl), (Nat.le_of_ble_eq_true rfl)⟩) (c_preV hG hH hS (ci := 0) rfl zb7) rfl rfl hl.1 (by rw [yb7]; rfl) (lv_room (Nat.le_of_ble_eq_true rfl)) dX0_chance_47 ⟨f1, f2⟩) (fun H locs hH hS => ?_)
    refine lv_if_le (tgt := 79) hx hb dX0_chance_50 (by decide) (fun c9 => ?_) (fun c9 => ?_)
    · replace z := it c9 z
      exact wX0_chance_79 S hr hlk hnm hG hRM ih x3.1 a1 a2 a3 z _ _ hH hS _ (lv_sub hl [0, 1, 2, 3] rfl)
    replace z := ie c9 z
    refine lv_iload_n hx hb dX0_chance_53 rfl (lv_at hl 2 rfl) ?_
    refine c_aload_n hx hb dX0_chance_54 rfl (lv_at hl 0 rfl) ?_
    replace z := ob z
    obtain ⟨v10, zv10, z⟩ := z
    obtain ⟨fsv10, yv10, zv10⟩ := gR_e zv10
    refine c_get S hG hH (ci := 0) (k := 9) rfl in_X0 (Nat.le_of_ble_eq_true rfl) q489 (fun _ y => y) yv10 zv10 dX0_chance_55 ?_
    refine c_aload_n hx hb dX0_chance_58 rfl (lv_at hl 0 rfl) ?_
    refine c_aload_n hx hb dX0_chance_59 rfl (lv_at hl 0 rfl) ?_
    replace z := ob z
    obtain ⟨b11, zb11, z⟩ := z
    obtain ⟨yb11, zb11⟩ := rcv_e zb11
    replace z := ob z
    obtain ⟨x12, zx12, z⟩ := z
    refine c_calli hH hS hRM (fun _ _ f1 f2 => va_runV (b := b11) (As := []) (rest := [va_rf (some a0), va_rf v10, .int a2]) S (metX0_films zx12) (cwV 0 hts (lw_V q1274 q1276 qs36 q167 q1277) rfl rfl rfl (by decide +kernel) ⟨(Nat.le_of_ble_eq_true rfl), (Nat.le_of_ble_eq_true rfl)⟩) (c_preV hG hH hS (ci := 0) rfl zb11) rfl rfl hl.1 (by rw [yb11]; rfl) (lv_room (by simp [ct_r, ct_i, ct_l])) dX0_chance_60 ⟨f1, f2⟩) (fun H locs hH hS => ?_)
    replace z := ob z
    obtain ⟨b13, zb13, z⟩ := z
    obtain ⟨yb13, zb13⟩ := rcv_e zb13
    replace z := ob z
    obtain ⟨x14, zx14, z⟩ := z
    refine c_calli hH hS hRM (fun _ _ f1 f2 => va_runV (b := b13) (As := [.int x12]) (rest := [va_rf v10, .int a2]) S (metX0_draw zx14) (cwV 1 hts (lw_V q1629 q1631 qs60 q167 q1632) rfl rfl rfl (by decide +kernel) ⟨(Nat.le_of_ble_eq_true rfl), (Nat.le_of_ble_eq_true rfl)⟩) (c_preV hG hH hS (ci := 0) rfl zb13) rfl rfl hl.1 (by rw [yb13]; rfl) (lv_room (by simp [ct_r, ct_i, ct_l])) dX0_chance_63 ⟨f1, f2⟩) (fun H locs hH hS => ?_)
    replace z := ob z
    obtain ⟨b15, zb15, z⟩ := z
    obtain ⟨yb15, zb15⟩ := rcv_e zb15
    replace z := ob z
    obtain ⟨x16, zx16, z⟩ := z
    refine c_calli hH hS hRM (fun _ _ f1 f2 => va_runV (b := b15) (As := [.int x14.2]) (rest := [.int a2]) S (metX5_isStranger zx16) (cwV 1 hts (lw_V q1637 q1638 q1639 q178 q1640) rfl rfl rfl (by decide +kernel) ⟨(Nat.le_of_ble_eq_true rfl), (Nat.le_of_ble_eq_true rfl)⟩) (c_preV hG hH hS (ci := 5) rfl zb15) rfl rfl hl.1 (by rw [yb15]; rfl) (lv_room (Nat.le_of_ble_eq_true rfl)) dX0_chance_66 ⟨f1, f2⟩) (fun H locs hH hS => ?_)
    refine lv_if_eq (tgt := 76) hx hb dX0_chance_69 (by decide) (fun c17 => ?_) (fun c17 => ?_)
    · replace z := it c17 z
      refine lv_iconst (v := (0 : Int32)) hx hb dX0_chance_76 (by decide) ?_
      exact wX0_chance_77 S hr hlk hnm hG hRM ih x16.1 a1 a3 a2 (0 : Int32) z _ _ hH hS _ (lv_sub hl [0, 1, 3] rfl)
    replace z := ie c17 z
    refine lv_iconst (v := (1 : Int32)) hx hb dX0_chance_72 (by decide) ?_
    refine lv_goto (tgt := 77) hx hb dX0_chance_73 (by decide) ?_
    exact wX0_chance_77 S hr hlk hnm hG hRM ih x16.1 a1 a3 a2 (1 : Int32) z _ _ hH hS _ (lv_sub hl [0, 1, 3] rfl)
set_option maxHeartbeats 4000000 in
theorem metX0_chance {l : Launch} {A : Nat → Prop} {D : va_G} {ac : Nat → ClassId} {K : KE} {h : HS} {a0 : Nat} {a1 : Int32} {x : HS × Int32} (z : fX0_chance K h a0 a1 = some x) : Met l yX0_chance (ws_ yX0_chance cX0_chance 4 (some .int)) (rmC 168 8438 K h) (cP A D ac K h [va_rf (some a0), .int a1]) (cQi A D ac K x) (K.2.2.1 - h.2.1) (K.2.2.2 - h.2.2) A := by
  refine c_entry (plainFor_of_name (by decide)) (Nat.le_of_ble_eq_true rfl) ?_
  intro p e s m below meth c S hr hlk hnm hG hRM hH hS ls hl
  replace hl : lv_has ls 4 [(0, va_rf (some a0)), (1, .int a1)] := hl
  replace hnm : meth.name = "chance" := hnm
  replace S : CallFix p m c cX0_chance 4 s _ lw_all RX0 := S
  obtain ⟨hx, hb, hml, hown, hts⟩ := id S
  unfold fX0_chance at z
  refine c_aload_n hx hb dX0_chance_0 rfl (lv_at hl 0 rfl) ?_
  refine lv_iload_n hx hb dX0_chance_1 rfl (lv_at hl 1 rfl) ?_
  refine lv_iconst (v := (1 : Int32)) hx hb dX0_chance_2 (by decide) ?_
  refine lv_bipush (v := (100 : Int32)) hx hb dX0_chance_3 (by decide) ?_
  replace z := ob z
  obtain ⟨b1, zb1, z⟩ := z
  obtain ⟨yb1, zb1⟩ := rcv_e zb1
  replace z := ob z
  obtain ⟨x2, zx2, z⟩ := z
  refine c_calli hH hS hRM (fun _ _ f1 f2 => va_runV (b := b1) (As := [.int a1, .int (1 : Int32), .int (100 : Int32)]) (rest := []) S (metX0_isAhead zx2) (cwV 3 hts (lw_V q1483 q1485 qs47 q167 q1486) rfl rfl rfl (by decide +kernel) ⟨(Nat.le_of_ble_eq_true rfl), (Nat.le_of_ble_eq_true rfl)⟩) (c_preV hG hH hS (ci := 0) rfl zb1) rfl rfl hl.1 (by rw [yb1]; rfl) (lv_room (Nat.le_of_ble_eq_true rfl)) dX0_chance_5 ⟨f1, f2⟩) (fun H locs hH hS => ?_)
  refine lv_if_ne (tgt := 17) hx hb dX0_chance_8 (by decide) (fun c3 => ?_) (fun c3 => ?_)
  rotate_left 1
  · replace z := it c3 z
    refine c_aload_n hx hb dX0_chance_11 rfl (lv_at hl 0 rfl) ?_
    refine lv_iconst (v := (3 : Int32)) hx hb dX0_chance_12 (by decide) ?_
    replace z := ob z
    obtain ⟨b6, zb6, z⟩ := z
    obtain ⟨yb6, zb6⟩ := rcv_e zb6
    replace z := ob z
    obtain ⟨x7, zx7, z⟩ := z
    refine c_calli hH hS hRM (fun _ _ f1 f2 => va_runV (b := b6) (As := [.int (3 : Int32)]) (rest := []) S (metX0_refuses zx7) (cwV 1 hts (lw_V q552 q554 qs1 q167 q555) rfl rfl rfl (by decide +kernel) ⟨(Nat.le_of_ble_eq_true rfl), (Nat.le_of_ble_eq_true rfl)⟩) (c_preV hG hH hS (ci := 0) rfl zb6) rfl rfl hl.1 (by rw [yb6]; rfl) (lv_room (Nat.le_of_ble_eq_true rfl)) dX0_chance_13 ⟨f1, f2⟩) (fun H locs hH hS => ?_)
    exact c_iret S hr hlk rfl hH hS z dX0_chance_16
  replace z := ie c3 z
  refine c_aload_n hx hb dX0_chance_17 rfl (lv_at hl 0 rfl) ?_
  replace z := ob z
  obtain ⟨b4, zb4, z⟩ := z
  obtain ⟨yb4, zb4⟩ := rcv_e zb4
  replace z := ob z
  obtain ⟨x5, zx5, z⟩ := z
  refine c_callv hH hS hRM (fun _ _ f1 f2 => va_runV (b := b4) (As := []) (rest := []) S (metX0_keeps zx5) (cwV 0 hts (lw_V q1613 q1615 qs59 q167 q1616) rfl rfl rfl (by decide +kernel) ⟨(Nat.le_of_ble_eq_true rfl), (Nat.le_of_ble_eq_true rfl)⟩) (c_preV hG hH hS (ci := 0) rfl zb4) rfl rfl hl.1 (by rw [yb4]; rfl) (lv_room (Nat.le_of_ble_eq_true rfl)) dX0_chance_18 ⟨f1, f2⟩) (fun H locs hH hS => ?_)
  refine lv_iconst (v := (0 : Int32)) hx hb dX0_chance_21 (by decide) ?_
  refine lv_istore_n (lv' := [(2, .int (0 : Int32)), (0, va_rf (some a0)), (1, .int a1)]) hx hb dX0_chance_22 rfl hl (by decide) rfl (fun ls hl => ?_)
  refine lv_iconst (v := (0 : Int32)) hx hb dX0_chance_23 (by decide) ?_
  refine lv_istore_n (lv' := [(3, .int (0 : Int32)), (2, .int (0 : Int32)), (0, va_rf (some a0)), (1, .int a1)]) hx hb dX0_chance_24 rfl hl (by decide) rfl (fun ls hl => ?_)
  exact wX0_chance_25 S hr hlk hnm hG hRM FU x5 a1 (0 : Int32) (0 : Int32) z _ _ hH hS _ (lv_sub hl [2, 3, 1, 0] rfl)
/-! FourOnOne$Question.meets(ILFourOnOne$Moment;)V -/
def fX21_meets_65 (K : KE) (a0 : Nat) (h : HS) (t1 : Int64) : Option (HS) :=
  (pV h (some a0) 18 3 (.long t1)).bind fun h1 =>
  (pV h1 (some a0) 18 4 (.int (1 : Int32))).bind fun h2 =>
  some h2
def fX21_meets_63 (K : KE) (a0 : Nat) (h : HS) (a1 : Int32) : Option (HS) :=
  fX21_meets_65 K a0 h a1.toInt64
def fX21_meets_139 (K : KE) (a0 : Nat) (h : HS) (t1 : Int64) : Option (HS) :=
  (pV h (some a0) 18 3 (.long t1)).bind fun h1 =>
  (pV h1 (some a0) 18 4 (.int (1 : Int32))).bind fun h2 =>
  some h2
def fX21_meets (K : KE) (h : HS) (a0 : Nat) (a1 : Int32) (a2 : Option Nat) : Option (HS) :=
  (gI K h (some a0) 18 0).bind fun v1 =>
  if (3 : Int32) ≤ v1 then
    (gR K h (some a0) 18 2).bind fun v3 =>
    (vAt K h 64 v3 a2).bind fun x4 =>
    (gI K h (some a0) 18 4).bind fun v5 =>
    if v5 = 0 then
      fX21_meets_139 K a0 h x4
    else
    (gI K h (some a0) 18 0).bind fun v7 =>
    if v7 = (3 : Int32) then
      (gL K h (some a0) 18 3).bind fun v15 =>
      fX21_meets_139 K a0 h (v15 + x4)
    else
    (gI K h (some a0) 18 0).bind fun v9 =>
    if v9 = (4 : Int32) then
      (gL K h (some a0) 18 3).bind fun v13 =>
      (fJ12_max_2 K h v13 x4).bind fun x14 =>
      fX21_meets_139 K a0 h x14
    else
    (gL K h (some a0) 18 3).bind fun v11 =>
    (fJ12_min_2 K h v11 x4).bind fun x12 =>
    fX21_meets_139 K a0 h x12
  else
  (gR K h (some a0) 18 1).bind fun v16 =>
  (vHo K h 64 v16 a2).bind fun x17 =>
  if x17 = 0 then
    some h
  else
  (gI K h (some a0) 18 0).bind fun v19 =>
  if v19 = (2 : Int32) then
    (gL K h (some a0) 18 3).bind fun v26 =>
    (fJ12_max_2 K h (0 : Int64) v26).bind fun x27 =>
    fX21_meets_65 K a0 h (x27 + (1 : Int64))
  else
  (gI K h (some a0) 18 0).bind fun v21 =>
  if v21 = 0 then
    (gI K h (some a0) 18 4).bind fun v23 =>
    if v23 = 0 then
      fX21_meets_63 K a0 h a1
    else
    (gL K h (some a0) 18 3).bind fun v25 =>
    fX21_meets_65 K a0 h v25
  else
  fX21_meets_63 K a0 h a1
set_option maxHeartbeats 4000000 in
theorem wX21_meets_65 {p : Program} {l : Launch} {e : Env} {s : State} {m : MethodId} {args : Array Value} {below : List Frame} {meth : Method} {c : Code} {A : Nat → Prop} {D : va_G} {ac : Nat → ClassId} {K : KE} {h0 : HS} {a0 : Nat} (S : CallFix p m c cX21_meets 5 s args lw_all RX21) (hr : meth.sig.returnType = none) (hlk : meth.locks = false) (hnm : meth.name = "meets") (hG : GK A D ac K s) (hRM : RM K s (rmC 165 8369 K h0)) {x : HS} : ∀ (h : HS) (t1 : Int64), fX21_meets_65 K a0 h t1 = some x → cGo p l e (rmC 165 8369 K h0) s m args below meth c A D ac K (MQ below (cQv A D ac K x) args s (K.2.2.1 - h0.2.1) (K.2.2.2 - h0.2.2) A) 5 65 [(0, va_rf (some a0))] [.long t1, va_rf (some a0)] h := by
  obtain ⟨hx, hb, hml, hown, hts⟩ := id S
  intro h t1 z H locs hH hS ls hl
  unfold fX21_meets_65 at z
  replace z := ob z
  obtain ⟨h1, zh1, z⟩ := z
  refine c_put S hG hH hS (ci := 18) (k := 3) rfl in_X21 tyX21 tyX21_ok nmX21 (Nat.le_of_ble_eq_true rfl) q1665 (fun _ y => y) rfl (ty := .long) rfl rfl rfl zh1 dX21_meets_65 (fun H locs hH hS => ?_)
  refine c_aload_n hx hb dX21_meets_68 rfl (lv_at hl 0 rfl) ?_
  refine lv_iconst (v := (1 : Int32)) hx hb dX21_meets_69 (by decide) ?_
  replace z := ob z
  obtain ⟨h2, zh2, z⟩ := z
  refine c_put S hG hH hS (ci := 18) (k := 4) rfl in_X21 tyX21 tyX21_ok nmX21 (Nat.le_of_ble_eq_true rfl) q1666 (fun _ y => y) rfl (ty := .boolean) rfl rfl rfl zh2 dX21_meets_70 (fun H locs hH hS => ?_)
  exact c_vret S hr hlk hH hS z dX21_meets_73
set_option maxHeartbeats 4000000 in
theorem wX21_meets_63 {p : Program} {l : Launch} {e : Env} {s : State} {m : MethodId} {args : Array Value} {below : List Frame} {meth : Method} {c : Code} {A : Nat → Prop} {D : va_G} {ac : Nat → ClassId} {K : KE} {h0 : HS} {a0 : Nat} (S : CallFix p m c cX21_meets 5 s args lw_all RX21) (hr : meth.sig.returnType = none) (hlk : meth.locks = false) (hnm : meth.name = "meets") (hG : GK A D ac K s) (hRM : RM K s (rmC 165 8369 K h0)) {x : HS} : ∀ (h : HS) (a1 : Int32), fX21_meets_63 K a0 h a1 = some x → cGo p l e (rmC 165 8369 K h0) s m args below meth c A D ac K (MQ below (cQv A D ac K x) args s (K.2.2.1 - h0.2.1) (K.2.2.2 - h0.2.2) A) 5 63 [(0, va_rf (some a0)), (1, .int a1)] [va_rf (some a0)] h := by
  obtain ⟨hx, hb, hml, hown, hts⟩ := id S
  intro h a1 z H locs hH hS ls hl
  unfold fX21_meets_63 at z
  refine lv_iload_n hx hb dX21_meets_63 rfl (lv_at hl 1 rfl) ?_
  refine lv_i2l (v := a1.toInt64) hx hb dX21_meets_64 rfl ?_
  exact wX21_meets_65 S hr hlk hnm hG hRM h a1.toInt64 z _ _ hH hS _ (lv_sub hl [0] rfl)
set_option maxHeartbeats 4000000 in
theorem wX21_meets_139 {p : Program} {l : Launch} {e : Env} {s : State} {m : MethodId} {args : Array Value} {below : List Frame} {meth : Method} {c : Code} {A : Nat → Prop} {D : va_G} {ac : Nat → ClassId} {K : KE} {h0 : HS} {a0 : Nat} (S : CallFix p m c cX21_meets 5 s args lw_all RX21) (hr : meth.sig.returnType = none) (hlk : meth.locks = false) (hnm : meth.name = "meets") (hG : GK A D ac K s) (hRM : RM K s (rmC 165 8369 K h0)) {x : HS} : ∀ (h : HS) (t1 : Int64), fX21_meets_139 K a0 h t1 = some x → cGo p l e (rmC 165 8369 K h0) s m args below meth c A D ac K (MQ below (cQv A D ac K x) args s (K.2.2.1 - h0.2.1) (K.2.2.2 - h0.2.2) A) 5 139 [(0, va_rf (some a0))] [.long t1, va_rf (some a0)] h := by
  obtain ⟨hx, hb, hml, hown, hts⟩ := id S
  intro h t1 z H locs hH hS ls hl
  unfold fX21_meets_139 at z
  replace z := ob z
  obtain ⟨h1, zh1, z⟩ := z
  refine c_put S hG hH hS (ci := 18) (k := 3) rfl in_X21 tyX21 tyX21_ok nmX21 (Nat.le_of_ble_eq_true rfl) q1665 (fun _ y => y) rfl (ty := .long) rfl rfl rfl zh1 dX21_meets_139 (fun H locs hH hS => ?_)
  refine c_aload_n hx hb dX21_meets_142 rfl (lv_at hl 0 rfl) ?_
  refine lv_iconst (v := (1 : Int32)) hx hb dX21_meets_143 (by decide) ?_
  replace z := ob z
  obtain ⟨h2, zh2, z⟩ := z
  refine c_put S hG hH hS (ci := 18) (k := 4) rfl in_X21 tyX21 tyX21_ok nmX21 (Nat.le_of_ble_eq_true rfl) q1666 (fun _ y => y) rfl (ty := .boolean) rfl rfl rfl zh2 dX21_meets_144 (fun H locs hH hS => ?_)
  exact c_vret S hr hlk hH hS z dX21_meets_147
set_option maxHeartbeats 4000000 in
theorem metX21_meets {l : Launch} {A : Nat → Prop} {D : va_G} {ac : Nat → ClassId} {K : KE} {h : HS} {a0 : Nat} {a1 : Int32} {a2 : Option Nat} {x : HS} (z : fX21_meets K h a0 a1 a2 = some x) : Met l yX21_meets (ws_ yX21_meets cX21_meets 5 (none)) (rmC 165 8369 K h) (cP A D ac K h [va_rf (some a0), .int a1, va_rf a2]) (cQv A D ac K x) (K.2.2.1 - h.2.1) (K.2.2.2 - h.2.2) A := by
  refine c_entry (plainFor_of_name (by decide)) (by simp [lg_sl, ct_r, ct_i, ct_l]) ?_
  intro p e s m below meth c S hr hlk hnm hG hRM hH hS ls hl
  replace hl : lv_has ls 5 [(0, va_rf (some a0)), (1, .int a1), (2, va_rf a2)] := (by simpa [lv_args, ct_r, ct_i, ct_l] using hl)
  replace hnm : meth.name = "meets" := hnm
  replace S : CallFix p m c cX21_meets 5 s _ lw_all RX21 := S
  obtain ⟨hx, hb, hml, hown, hts⟩ := id S
  unfold fX21_meets at z
  refine c_aload_n hx hb dX21_meets_0 rfl (lv_at hl 0 rfl) ?_
  replace z := ob z
  obtain ⟨v1, zv1, z⟩ := z
  obtain ⟨fsv1, yv1, zv1⟩ := gI_e zv1
  refine c_get S hG hH (ci := 18) (k := 0) rfl in_X21 (Nat.le_of_ble_eq_true rfl) q1662 (fun _ y => y) yv1 zv1 dX21_meets_1 ?_
  refine lv_iconst (v := (3 : Int32)) hx hb dX21_meets_4 (by decide) ?_
  refine lv_icmp_ge (tgt := 74) hx hb dX21_meets_5 (by decide) (fun c2 => ?_) (fun c2 => ?_)
  rotate_left 1
  · replace z := ie c2 z
    refine c_aload_n hx hb dX21_meets_8 rfl (lv_at hl 0 rfl) ?_
    replace z := ob z
    obtain ⟨v16, zv16, z⟩ := z
    obtain ⟨fsv16, yv16, zv16⟩ := gR_e zv16
    refine c_get S hG hH (ci := 18) (k := 1) rfl in_X21 (Nat.le_of_ble_eq_true rfl) q1663 (fun _ y => y) yv16 zv16 dX21_meets_9 ?_
    refine c_aload_n hx hb dX21_meets_12 rfl (lv_at hl 2 rfl) ?_
    replace z := ob z
    obtain ⟨x17, zx17, z⟩ := z
    refine c_vho S hG hH hS hRM q1683 (vHo_ok _) zx17 ⟨(Nat.le_of_ble_eq_true rfl), (Nat.le_of_ble_eq_true rfl)⟩ hl.1 (Nat.le_of_ble_eq_true rfl) dX21_meets_13 (fun H locs hH hS => ?_)
    refine lv_if_ne (tgt := 20) hx hb dX21_meets_16 (by decide) (fun c18 => ?_) (fun c18 => ?_)
    rotate_left 1
    · replace z := it c18 z
      exact c_vret S hr hlk hH hS z dX21_meets_19
    replace z := ie c18 z
    refine c_aload_n hx hb dX21_meets_20 rfl (lv_at hl 0 rfl) ?_
    refine c_aload_n hx hb dX21_meets_21 rfl (lv_at hl 0 rfl) ?_
    replace z := ob z
    obtain ⟨v19, zv19, z⟩ := z
    obtain ⟨fsv19, yv19, zv19⟩ := gI_e zv19
    refine c_get S hG hH (ci := 18) (k := 0) rfl in_X21 (Nat.le_of_ble_eq_true rfl) q1662 (fun _ y => y) yv19 zv19 dX21_meets_22 ?_
    refine lv_iconst (v := (2 : Int32)) hx hb dX21_meets_25 (by decide) ?_
    refine lv_icmp_ne (tgt := 42) hx hb dX21_meets_26 (by decide) (fun c20 => ?_) (fun c20 => ?_)
    rotate_left 1
    · replace z := it c20 z
      refine lv_lconst (v := (0 : Int64)) hx hb dX21_meets_29 (by decide) ?_
      refine c_aload_n hx hb dX21_meets_30 rfl (lv_at hl 0 rfl) ?_
      replace z := ob z
      obtain ⟨v26, zv26, z⟩ := z
      obtain ⟨fsv26, yv26, zv26⟩ := gL_e zv26
      refine c_get S hG hH (ci := 18) (k := 3) rfl in_X21 (Nat.le_of_ble_eq_true rfl) q1665 (fun _ y => y) yv26 zv26 dX21_meets_31 ?_
      replace z := ob z
      obtain ⟨x27, zx27, z⟩ := z
      refine c_calll hH hS hRM (fun _ _ f1 f2 => va_runS (As := [.long (0 : Int64), .long v26]) (rest := [va_rf (some a0)]) S (metJ12_max_2 zx27) (va_cwS 2 hts (lw_S q1684 q1421 q187 q1422) rfl rfl rfl (by decide +kernel) ⟨(Nat.le_of_ble_eq_true rfl), (Nat.le_of_ble_eq_true rfl)⟩) (c_pre hG hH hS) rfl rfl hl.1 rfl (lv_room (Nat.le_of_ble_eq_true rfl)) dX21_meets_34 ⟨f1, f2⟩) (fun H locs hH hS => ?_)
      refine lv_lconst (v := (1 : Int64)) hx hb dX21_meets_37 (by decide) ?_
      refine lv_ladd hx hb dX21_meets_38 ?_
      refine lv_goto (tgt := 65) hx hb dX21_meets_39 (by decide) ?_
      exact wX21_meets_65 S hr hlk hnm hG hRM h (x27 + (1 : Int64)) z _ _ hH hS _ (lv_sub hl [0] rfl)
    replace z := ie c20 z
    refine c_aload_n hx hb dX21_meets_42 rfl (lv_at hl 0 rfl) ?_
    replace z := ob z
    obtain ⟨v21, zv21, z⟩ := z
    obtain ⟨fsv21, yv21, zv21⟩ := gI_e zv21
    refine c_get S hG hH (ci := 18) (k := 0) rfl in_X21 (Nat.le_of_ble_eq_true rfl) q1662 (fun _ y => y) yv21 zv21 dX21_meets_43 ?_
    refine lv_if_ne (tgt := 63) hx hb dX21_meets_46 (by decide) (fun c22 => ?_) (fun c22 => ?_)
    · replace z := ie c22 z
      exact wX21_meets_63 S hr hlk hnm hG hRM h a1 z _ _ hH hS _ (lv_sub hl [0, 1] rfl)
    replace z := it c22 z
    refine c_aload_n hx hb dX21_meets_49 rfl (lv_at hl 0 rfl) ?_
    replace z := ob z
    obtain ⟨v23, zv23, z⟩ := z
    obtain ⟨fsv23, yv23, zv23⟩ := gI_e zv23
    refine c_get S hG hH (ci := 18) (k := 4) rfl in_X21 (Nat.le_of_ble_eq_true rfl) q1666 (fun _ y => y) yv23 zv23 dX21_meets_50 ?_
    refine lv_if_eq (tgt := 63) hx hb dX21_meets_53 (by decide) (fun c24 => ?_) (fun c24 => ?_)
    · replace z := it c24 z
      exact wX21_meets_63 S hr hlk hnm hG hRM h a1 z _ _ hH hS _ (lv_sub hl [0, 1] rfl)
    replace z := ie c24 z
    refine c_aload_n hx hb dX21_meets_56 rfl (lv_at hl 0 rfl) ?_
    replace z := ob z
    obtain ⟨v25, zv25, z⟩ := z
    obtain ⟨fsv25, yv25, zv25⟩ := gL_e zv25
    refine c_get S hG hH (ci := 18) (k := 3) rfl in_X21 (Nat.le_of_ble_eq_true rfl) q1665 (fun _ y => y) yv25 zv25 dX21_meets_57 ?_
    refine lv_goto (tgt := 65) hx hb dX21_meets_60 (by decide) ?_
    exact wX21_meets_65 S hr hlk hnm hG hRM h v25 z _ _ hH hS _ (lv_sub hl [0] rfl)
  replace z := it c2 z
  refine c_aload_n hx hb dX21_meets_74 rfl (lv_at hl 0 rfl) ?_
  replace z := ob z
  obtain ⟨v3, zv3, z⟩ := z
  obtain ⟨fsv3, yv3, zv3⟩ := gR_e zv3
  refine c_get S hG hH (ci := 18) (k := 2) rfl in_X21 (Nat.le_of_ble_eq_true rfl) q1664 (fun _ y => y) yv3 zv3 dX21_meets_75 ?_
  refine c_aload_n hx hb dX21_meets_78 rfl (lv_at hl 2 rfl) ?_
  replace z := ob z
  obtain ⟨x4, zx4, z⟩ := z
  refine c_vat S hG hH hS hRM q1685 (vAt_ok _) zx4 ⟨(Nat.le_of_ble_eq_true rfl), (Nat.le_of_ble_eq_true rfl)⟩ hl.1 (Nat.le_of_ble_eq_true rfl) dX21_meets_79 (fun H locs hH hS => ?_)
  refine lv_lstore_n (i := 3) (lv' := [(3, .long x4), (0, va_rf (some a0)), (1, .int a1), (2, va_rf a2)]) hx hb dX21_meets_82 rfl hl (by decide) (by simp [List.filter, ct_r, ct_i, ct_l]) (fun ls hl => ?_)
  refine c_aload_n hx hb dX21_meets_83 rfl (lv_at hl 1 rfl) ?_
  refine c_aload_n hx hb dX21_meets_84 rfl (lv_at hl 1 rfl) ?_
  replace z := ob z
  obtain ⟨v5, zv5, z⟩ := z
  obtain ⟨fsv5, yv5, zv5⟩ := gI_e zv5
  refine c_get S hG hH (ci := 18) (k := 4) rfl in_X21 (Nat.le_of_ble_eq_true rfl) q1666 (fun _ y => y) yv5 zv5 dX21_meets_85 ?_
  refine lv_if_ne (tgt := 95) hx hb dX21_meets_88 (by decide) (fun c6 => ?_) (fun c6 => ?_)
  rotate_left 1
  · replace z := it c6 z
    refine lv_lload_n hx hb dX21_meets_91 rfl (lv_at hl 0 rfl) ?_
    refine lv_goto (tgt := 139) hx hb dX21_meets_92 (by decide) ?_
    exact wX21_meets_139 S hr hlk hnm hG hRM h x4 z _ _ hH hS _ (lv_sub hl [1] rfl)
  replace z := ie c6 z
  refine c_aload_n hx hb dX21_meets_95 rfl (lv_at hl 1 rfl) ?_
  replace z := ob z
  obtain ⟨v7, zv7, z⟩ := z
  obtain ⟨fsv7, yv7, zv7⟩ := gI_e zv7
  refine c_get S hG hH (ci := 18) (k := 0) rfl in_X21 (Nat.le_of_ble_eq_true rfl) q1662 (fun _ y => y) yv7 zv7 dX21_meets_96 ?_
  refine lv_iconst (v := (3 : Int32)) hx hb dX21_meets_99 (by decide) ?_
  refine lv_icmp_ne (tgt := 112) hx hb dX21_meets_100 (by decide) (fun c8 => ?_) (fun c8 => ?_)
  rotate_left 1
  · replace z := it c8 z
    refine c_aload_n hx hb dX21_meets_103 rfl (lv_at hl 1 rfl) ?_
    replace z := ob z
    obtain ⟨v15, zv15, z⟩ := z
    obtain ⟨fsv15, yv15, zv15⟩ := gL_e zv15
    refine c_get S hG hH (ci := 18) (k := 3) rfl in_X21 (Nat.le_of_ble_eq_true rfl) q1665 (fun _ y => y) yv15 zv15 dX21_meets_104 ?_
    refine lv_lload_n hx hb dX21_meets_107 rfl (lv_at hl 0 rfl) ?_
    refine lv_ladd hx hb dX21_meets_108 ?_
    refine lv_goto (tgt := 139) hx hb dX21_meets_109 (by decide) ?_
    exact wX21_meets_139 S hr hlk hnm hG hRM h (v15 + x4) z _ _ hH hS _ (lv_sub hl [1] rfl)
  replace z := ie c8 z
  refine c_aload_n hx hb dX21_meets_112 rfl (lv_at hl 1 rfl) ?_
  replace z := ob z
  obtain ⟨v9, zv9, z⟩ := z
  obtain ⟨fsv9, yv9, zv9⟩ := gI_e zv9
  refine c_get S hG hH (ci := 18) (k := 0) rfl in_X21 (Nat.le_of_ble_eq_true rfl) q1662 (fun _ y => y) yv9 zv9 dX21_meets_113 ?_
  refine lv_iconst (v := (4 : Int32)) hx hb dX21_meets_116 (by decide) ?_
  refine lv_icmp_ne (tgt := 131) hx hb dX21_meets_117 (by decide) (fun c10 => ?_) (fun c10 => ?_)
  · replace z := ie c10 z
    refine c_aload_n hx hb dX21_meets_131 rfl (lv_at hl 1 rfl) ?_
    replace z := ob z
    obtain ⟨v11, zv11, z⟩ := z
    obtain ⟨fsv11, yv11, zv11⟩ := gL_e zv11
    refine c_get S hG hH (ci := 18) (k := 3) rfl in_X21 (Nat.le_of_ble_eq_true rfl) q1665 (fun _ y => y) yv11 zv11 dX21_meets_132 ?_
    refine lv_lload_n hx hb dX21_meets_135 rfl (lv_at hl 0 rfl) ?_
    replace z := ob z
    obtain ⟨x12, zx12, z⟩ := z
    refine c_calll hH hS hRM (fun _ _ f1 f2 => va_runS (As := [.long v11, .long x4]) (rest := [va_rf (some a0)]) S (metJ12_min_2 zx12) (va_cwS 2 hts (lw_S q1686 q1418 q187 q1419) rfl rfl rfl (by decide +kernel) ⟨(Nat.le_of_ble_eq_true rfl), (Nat.le_of_ble_eq_true rfl)⟩) (c_pre hG hH hS) rfl rfl hl.1 rfl (lv_room (Nat.le_of_ble_eq_true rfl)) dX21_meets_136 ⟨f1, f2⟩) (fun H locs hH hS => ?_)
    exact wX21_meets_139 S hr hlk hnm hG hRM h x12 z _ _ hH hS _ (lv_sub hl [1] rfl)
  replace z := it c10 z
  refine c_aload_n hx hb dX21_meets_120 rfl (lv_at hl 1 rfl) ?_
  replace z := ob z
  obtain ⟨v13, zv13, z⟩ := z
  obtain ⟨fsv13, yv13, zv13⟩ := gL_e zv13
  refine c_get S hG hH (ci := 18) (k := 3) rfl in_X21 (Nat.le_of_ble_eq_true rfl) q1665 (fun _ y => y) yv13 zv13 dX21_meets_121 ?_
  refine lv_lload_n hx hb dX21_meets_124 rfl (lv_at hl 0 rfl) ?_
  replace z := ob z
  obtain ⟨x14, zx14, z⟩ := z
  refine c_calll hH hS hRM (fun _ _ f1 f2 => va_runS (As := [.long v13, .long x4]) (rest := [va_rf (some a0)]) S (metJ12_max_2 zx14) (va_cwS 2 hts (lw_S q1684 q1421 q187 q1422) rfl rfl rfl (by decide +kernel) ⟨(Nat.le_of_ble_eq_true rfl), (Nat.le_of_ble_eq_true rfl)⟩) (c_pre hG hH hS) rfl rfl hl.1 rfl (lv_room (Nat.le_of_ble_eq_true rfl)) dX21_meets_125 ⟨f1, f2⟩) (fun H locs hH hS => ?_)
  refine lv_goto (tgt := 139) hx hb dX21_meets_128 (by decide) ?_
  exact wX21_meets_139 S hr hlk hnm hG hRM h x14 z _ _ hH hS _ (lv_sub hl [1] rfl)

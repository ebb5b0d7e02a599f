set_option maxRecDepth 100000
/-! FourOnOne$State.hours(I)LFourOnOne$State; -/
def fX5_hours_2 (K : KE) (a0 : Nat) : Nat → HS → Int32 → Int32 → Option (HS × Option Nat)
  | 0, _, _, _ => none
  | n + 1, h, a1, a2 =>
    if a1 ≤ a2 then
      some (h, (some a0))
    else
    (rcv K h (some a0) 5).bind fun b2 =>
    (fX5_passes K h b2).bind fun x3 =>
    fX5_hours_2 K a0 n x3.1 a1 (a2 + (1 : Int32))
def fX5_hours (K : KE) (h : HS) (a0 : Nat) (a1 : Int32) : Option (HS × Option Nat) :=
  fX5_hours_2 K a0 FU h a1 (0 : Int32)
set_option maxHeartbeats 4000000 in
theorem wX5_hours_2 {p : Program} {l : Launch} {e : Env} {s : State} {m : MethodId} {args : Array Value} {below : List Frame} {meth : Method} {c : Code} {A : Nat → Prop} {D : va_G} {ac : Nat → ClassId} {K : KE} {h0 : HS} {a0 : Nat} (S : CallFix p m c cX5_hours 3 s args lw_all RX5) (hr : meth.sig.returnType = some (.object "FourOnOne$State")) (hlk : meth.locks = false) (hnm : meth.name = "hours") (hG : GK A D ac K s) (hRM : RM K s (rmC 168 8438 K h0)) {x : HS × Option Nat} : ∀ (n : Nat) (h : HS) (a1 : Int32) (a2 : Int32), fX5_hours_2 K a0 n h a1 a2 = some x → cGo p l e (rmC 168 8438 K h0) s m args below meth c A D ac K (MQ below (cQq A D ac K x) args s (K.2.2.1 - h0.2.1) (K.2.2.2 - h0.2.2) A) 3 2 [(0, va_rf (some a0)), (1, .int a1), (2, .int a2)] [] h := by
  obtain ⟨hx, hb, hml, hown, hts⟩ := id S
  intro n
  induction n with
  | zero => intro h a1 a2 z; cases z
  | succ n ih =>
    intro h a1 a2 z H locs hH hS ls hl
    rw [fX5_hours_2] at z
    refine lv_iload_n hx hb dX5_hours_2 rfl (lv_at hl 2 rfl) ?_
    refine lv_iload_n hx hb dX5_hours_3 rfl (lv_at hl 1 rfl) ?_
    refine lv_icmp_ge (tgt := 18) hx hb dX5_hours_4 (by decide) (fun c1 => ?_) (fun c1 => ?_)
    · replace z := it c1 z
      refine c_aload_n hx hb dX5_hours_18 rfl (lv_at hl 0 rfl) ?_
      exact c_aret S hr (Or.inl ⟨_, rfl⟩) hlk hH hS z dX5_hours_19
    replace z := ie c1 z
    refine c_aload_n hx hb dX5_hours_7 rfl (lv_at hl 0 rfl) ?_
    replace z := ob z
    obtain ⟨b2, zb2, z⟩ := z
    obtain ⟨yb2, zb2⟩ := rcv_e zb2
    replace z := ob z
    obtain ⟨x3, zx3, z⟩ := z
    refine c_calli hH hS hRM (fun _ _ f1 f2 => va_runV (b := b2) (As := []) (rest := []) S (metX5_passes zx3) (cwV 0 hts (lw_V q1495 q1496 q1497 q178 q1498) rfl rfl rfl (by decide +kernel) ⟨(Nat.le_of_ble_eq_true rfl), (Nat.le_of_ble_eq_true rfl)⟩) (c_preV hG hH hS (ci := 5) rfl zb2) rfl rfl hl.1 (by rw [yb2]; rfl) (lv_room (Nat.le_of_ble_eq_true rfl)) dX5_hours_8 ⟨f1, f2⟩) (fun H locs hH hS => ?_)
    refine lv_pop hx hb dX5_hours_11 rfl ?_
    refine lv_iinc (v := (a2 + (1 : Int32))) (lv' := [(2, .int (a2 + (1 : Int32))), (0, va_rf (some a0)), (1, .int a1)]) hx hb dX5_hours_12 hl (k := 2) rfl rfl (by decide) rfl (fun ls hl => ?_)
    refine lv_goto (tgt := 2) hx hb dX5_hours_15 (by decide) ?_
    exact ih x3.1 a1 (a2 + (1 : Int32)) z _ _ hH hS _ (lv_sub hl [1, 2, 0] rfl)
set_option maxHeartbeats 4000000 in
theorem metX5_hours {l : Launch} {A : Nat → Prop} {D : va_G} {ac : Nat → ClassId} {K : KE} {h : HS} {a0 : Nat} {a1 : Int32} {x : HS × Option Nat} (z : fX5_hours K h a0 a1 = some x) : Met l yX5_hours (ws_ yX5_hours cX5_hours 3 (some (.object "FourOnOne$State"))) (rmC 168 8438 K h) (cP A D ac K h [va_rf (some a0), .int a1]) (cQq A D ac K x) (K.2.2.1 - h.2.1) (K.2.2.2 - h.2.2) A := by
  refine c_entry (plainFor_of_name (by decide)) (Nat.le_of_ble_eq_true rfl) ?_
  intro p e s m below meth c S hr hlk hnm hG hRM hH hS ls hl
  replace hl : lv_has ls 3 [(0, va_rf (some a0)), (1, .int a1)] := hl
  replace hnm : meth.name = "hours" := hnm
  replace S : CallFix p m c cX5_hours 3 s _ lw_all RX5 := S
  obtain ⟨hx, hb, hml, hown, hts⟩ := id S
  unfold fX5_hours at z
  refine lv_iconst (v := (0 : Int32)) hx hb dX5_hours_0 (by decide) ?_
  refine lv_istore_n (lv' := [(2, .int (0 : Int32)), (0, va_rf (some a0)), (1, .int a1)]) hx hb dX5_hours_1 rfl hl (by decide) rfl (fun ls hl => ?_)
  exact wX5_hours_2 S hr hlk hnm hG hRM FU h a1 (0 : Int32) z _ _ hH hS _ (lv_sub hl [1, 2, 0] rfl)
/-! FourOnOne.pleased(II)J -/
def fX0_pleased_42 (K : KE) (a0 : Nat) (h : HS) : Option (HS × Int64) :=
  some (h, (-1000000000000000 : Int64))
def fX0_pleased (K : KE) (h : HS) (a0 : Nat) (a1 : Int32) (a2 : Int32) : Option (HS × Int64) :=
  (rcv K h (some a0) 0).bind fun b1 =>
  (fX0_isPerson K h b1 a1).bind fun x2 =>
  if x2 = 0 then
    fX0_pleased_42 K a0 h
  else
  (rcv K h (some a0) 0).bind fun b4 =>
  (fX0_isAhead K h b4 a2 (0 : Int32) (72 : Int32)).bind fun x5 =>
  if x5 = 0 then
    fX0_pleased_42 K a0 h
  else
  (gR K h (some a0) 0 10).bind fun v7 =>
  (gR K h (some a0) 0 9).bind fun v8 =>
  (rcv K h v7 5).bind fun b9 =>
  (fX5_copy K h b9 v8).bind fun x10 =>
  (rcv K x10.1 x10.2 5).bind fun b11 =>
  (fX5_hours K x10.1 b11 a2).bind fun x12 =>
  (gR K x12.1 x12.2 5 7).bind fun v13 =>
  (cL K x12.1 v13 1 a1).bind fun v14 =>
  some (x12.1, v14)
set_option maxHeartbeats 4000000 in
theorem wX0_pleased_42 {p : Program} {l : Launch} {e : Env} {s : State} {m : MethodId} {args : Array Value} {below : List Frame} {meth : Method} {c : Code} {A : Nat → Prop} {D : va_G} {ac : Nat → ClassId} {K : KE} {h0 : HS} {a0 : Nat} (S : CallFix p m c cX0_pleased 3 s args lw_all RX0) (hr : meth.sig.returnType = some .long) (hlk : meth.locks = false) (hnm : meth.name = "pleased") (hG : GK A D ac K s) (hRM : RM K s (rmC 169 8460 K h0)) {x : HS × Int64} : ∀ (h : HS), fX0_pleased_42 K a0 h = some x → cGo p l e (rmC 169 8460 K h0) s m args below meth c A D ac K (MQ below (cQl A D ac K x) args s (K.2.2.1 - h0.2.1) (K.2.2.2 - h0.2.2) A) 3 42 [(0, va_rf (some a0))] [] h := by
  obtain ⟨hx, hb, hml, hown, hts⟩ := id S
  intro h z H locs hH hS ls hl
  unfold fX0_pleased_42 at z
  refine lv_ldc2 hx hb hown (hts _ q1527) dX0_pleased_42 ?_
  exact c_lret S hr hlk hH hS z dX0_pleased_45
set_option maxHeartbeats 4000000 in
theorem metX0_pleased {l : Launch} {A : Nat → Prop} {D : va_G} {ac : Nat → ClassId} {K : KE} {h : HS} {a0 : Nat} {a1 : Int32} {a2 : Int32} {x : HS × Int64} (z : fX0_pleased K h a0 a1 a2 = some x) : Met l yX0_pleased (ws_ yX0_pleased cX0_pleased 3 (some .long)) (rmC 169 8460 K h) (cP A D ac K h [va_rf (some a0), .int a1, .int a2]) (cQl A D ac K x) (K.2.2.1 - h.2.1) (K.2.2.2 - h.2.2) A := by
  refine c_entry (plainFor_of_name (by decide)) (Nat.le_of_ble_eq_true rfl) ?_
  intro p e s m below meth c S hr hlk hnm hG hRM hH hS ls hl
  replace hl : lv_has ls 3 [(0, va_rf (some a0)), (1, .int a1), (2, .int a2)] := hl
  replace hnm : meth.name = "pleased" := hnm
  replace S : CallFix p m c cX0_pleased 3 s _ lw_all RX0 := S
  obtain ⟨hx, hb, hml, hown, hts⟩ := id S
  unfold fX0_pleased at z
  refine c_aload_n hx hb dX0_pleased_0 rfl (lv_at hl 0 rfl) ?_
  refine lv_iload_n hx hb dX0_pleased_1 rfl (lv_at hl 1 rfl) ?_
  replace z := ob z
  obtain ⟨b1, zb1, z⟩ := z
  obtain ⟨yb1, zb1⟩ := rcv_e zb1
  replace z := ob z
  obtain ⟨x2, zx2, z⟩ := z
  refine c_calli hH hS hRM (fun _ _ f1 f2 => va_runV (b := b1) (As := [.int a1]) (rest := []) S (metX0_isPerson zx2) (cwV 1 hts (lw_V q1340 q1342 qs42 q167 q1343) rfl rfl rfl (by decide +kernel) ⟨(Nat.le_of_ble_eq_true rfl), (Nat.le_of_ble_eq_true rfl)⟩) (c_preV hG hH hS (ci := 0) rfl zb1) rfl rfl hl.1 (by rw [yb1]; rfl) (lv_room (Nat.le_of_ble_eq_true rfl)) dX0_pleased_2 ⟨f1, f2⟩) (fun H locs hH hS => ?_)
  refine lv_if_eq (tgt := 42) hx hb dX0_pleased_5 (by decide) (fun c3 => ?_) (fun c3 => ?_)
  · replace z := it c3 z
    exact wX0_pleased_42 S hr hlk hnm hG hRM h z _ _ hH hS _ (lv_sub hl [0] rfl)
  replace z := ie c3 z
  refine c_aload_n hx hb dX0_pleased_8 rfl (lv_at hl 0 rfl) ?_
  refine lv_iload_n hx hb dX0_pleased_9 rfl (lv_at hl 2 rfl) ?_
  refine lv_iconst (v := (0 : Int32)) hx hb dX0_pleased_10 (by decide) ?_
  refine lv_bipush (v := (72 : Int32)) hx hb dX0_pleased_11 (by decide) ?_
  replace z := ob z
  obtain ⟨b4, zb4, z⟩ := z
  obtain ⟨yb4, zb4⟩ := rcv_e zb4
  replace z := ob z
  obtain ⟨x5, zx5, z⟩ := z
  refine c_calli hH hS hRM (fun _ _ f1 f2 => va_runV (b := b4) (As := [.int a2, .int (0 : Int32), .int (72 : Int32)]) (rest := []) S (metX0_isAhead zx5) (cwV 3 hts (lw_V q1483 q1485 qs47 q167 q1486) rfl rfl rfl (by decide +kernel) ⟨(Nat.le_of_ble_eq_true rfl), (Nat.le_of_ble_eq_true rfl)⟩) (c_preV hG hH hS (ci := 0) rfl zb4) rfl rfl hl.1 (by rw [yb4]; rfl) (lv_room (Nat.le_of_ble_eq_true rfl)) dX0_pleased_13 ⟨f1, f2⟩) (fun H locs hH hS => ?_)
  refine lv_if_eq (tgt := 42) hx hb dX0_pleased_16 (by decide) (fun c6 => ?_) (fun c6 => ?_)
  · replace z := it c6 z
    exact wX0_pleased_42 S hr hlk hnm hG hRM h z _ _ hH hS _ (lv_sub hl [0] rfl)
  replace z := ie c6 z
  refine c_aload_n hx hb dX0_pleased_19 rfl (lv_at hl 0 rfl) ?_
  replace z := ob z
  obtain ⟨v7, zv7, z⟩ := z
  obtain ⟨fsv7, yv7, zv7⟩ := gR_e zv7
  refine c_get S hG hH (ci := 0) (k := 10) rfl in_X0 (Nat.le_of_ble_eq_true rfl) q490 (fun _ y => y) yv7 zv7 dX0_pleased_20 ?_
  refine c_aload_n hx hb dX0_pleased_23 rfl (lv_at hl 0 rfl) ?_
  replace z := ob z
  obtain ⟨v8, zv8, z⟩ := z
  obtain ⟨fsv8, yv8, zv8⟩ := gR_e zv8
  refine c_get S hG hH (ci := 0) (k := 9) rfl in_X0 (Nat.le_of_ble_eq_true rfl) q489 (fun _ y => y) yv8 zv8 dX0_pleased_24 ?_
  replace z := ob z
  obtain ⟨b9, zb9, z⟩ := z
  obtain ⟨yb9, zb9⟩ := rcv_e zb9
  replace z := ob z
  obtain ⟨x10, zx10, z⟩ := z
  refine c_callq hH hS hRM (fun _ _ f1 f2 => va_runV (b := b9) (As := [va_rf v8]) (rest := []) S (metX5_copy zx10) (cwV 1 hts (lw_V q1487 q1488 q1489 q178 q1490) rfl rfl rfl (by decide +kernel) ⟨(Nat.le_of_ble_eq_true rfl), (Nat.le_of_ble_eq_true rfl)⟩) (c_preV hG hH hS (ci := 5) rfl zb9) rfl rfl hl.1 (by rw [yb9]; rfl) (lv_room (Nat.le_of_ble_eq_true rfl)) dX0_pleased_27 ⟨f1, f2⟩) (fun H locs hH hS => ?_)
  refine lv_iload_n hx hb dX0_pleased_30 rfl (lv_at hl 2 rfl) ?_
  replace z := ob z
  obtain ⟨b11, zb11, z⟩ := z
  obtain ⟨yb11, zb11⟩ := rcv_e zb11
  replace z := ob z
  obtain ⟨x12, zx12, z⟩ := z
  refine c_callq hH hS hRM (fun _ _ f1 f2 => va_runV (b := b11) (As := [.int a2]) (rest := []) S (metX5_hours zx12) (cwV 1 hts (lw_V q1491 q1492 q1493 q178 q1494) rfl rfl rfl (by decide +kernel) ⟨(Nat.le_of_ble_eq_true rfl), (Nat.le_of_ble_eq_true rfl)⟩) (c_preV hG hH hS (ci := 5) rfl zb11) rfl rfl hl.1 (by rw [yb11]; rfl) (lv_room (Nat.le_of_ble_eq_true rfl)) dX0_pleased_31 ⟨f1, f2⟩) (fun H locs hH hS => ?_)
  replace z := ob z
  obtain ⟨v13, zv13, z⟩ := z
  obtain ⟨fsv13, yv13, zv13⟩ := gR_e zv13
  refine c_getN S hG hH (ci := 5) (k := 7) rfl in_X5 (Nat.le_of_ble_eq_true rfl) q444 (fun _ y => y) yv13 zv13 dX0_pleased_34 ?_
  refine lv_iload_n hx hb dX0_pleased_37 rfl (lv_at hl 1 rfl) ?_
  replace z := ob z
  obtain ⟨v14, zv14, z⟩ := z
  refine c_lald S hG hH zv14 dX0_pleased_38 ?_
  refine lv_goto (tgt := 45) hx hb dX0_pleased_39 (by decide) ?_
  exact c_lret S hr hlk hH hS z dX0_pleased_45
/-! FourOnOne.refused(II)I -/
def fX0_refused (K : KE) (h : HS) (a0 : Nat) (a1 : Int32) (a2 : Int32) : Option (HS × Int32) :=
  (rcv K h (some a0) 0).bind fun b1 =>
  (fX0_isPerson K h b1 a1).bind fun x2 =>
  if x2 = 0 then
    some (h, (-1 : Int32))
  else
  (rcv K h (some a0) 0).bind fun b4 =>
  (fX0_isAhead K h b4 a2 (0 : Int32) (72 : Int32)).bind fun x5 =>
  if x5 = 0 then
    some (h, (-1 : Int32))
  else
  (gR K h (some a0) 0 10).bind fun v7 =>
  (gR K h (some a0) 0 9).bind fun v8 =>
  (rcv K h v7 5).bind fun b9 =>
  (fX5_copy K h b9 v8).bind fun x10 =>
  (rcv K x10.1 x10.2 5).bind fun b11 =>
  (fX5_hours K x10.1 b11 a2).bind fun x12 =>
  (gR K x12.1 x12.2 5 8).bind fun v13 =>
  (cI K x12.1 v13 0 a1).bind fun v14 =>
  some (x12.1, v14)
set_option maxHeartbeats 4000000 in
theorem metX0_refused {l : Launch} {A : Nat → Prop} {D : va_G} {ac : Nat → ClassId} {K : KE} {h : HS} {a0 : Nat} {a1 : Int32} {a2 : Int32} {x : HS × Int32} (z : fX0_refused K h a0 a1 a2 = some x) : Met l yX0_refused (ws_ yX0_refused cX0_refused 3 (some .int)) (rmC 169 8460 K h) (cP A D ac K h [va_rf (some a0), .int a1, .int a2]) (cQi A D ac K x) (K.2.2.1 - h.2.1) (K.2.2.2 - h.2.2) A := by
  refine c_entry (plainFor_of_name (by decide)) (Nat.le_of_ble_eq_true rfl) ?_
  intro p e s m below meth c S hr hlk hnm hG hRM hH hS ls hl
  replace hl : lv_has ls 3 [(0, va_rf (some a0)), (1, .int a1), (2, .int a2)] := hl
  replace hnm : meth.name = "refused" := hnm
  replace S : CallFix p m c cX0_refused 3 s _ lw_all RX0 := S
  obtain ⟨hx, hb, hml, hown, hts⟩ := id S
  unfold fX0_refused at z
  refine c_aload_n hx hb dX0_refused_0 rfl (lv_at hl 0 rfl) ?_
  refine lv_iload_n hx hb dX0_refused_1 rfl (lv_at hl 1 rfl) ?_
  replace z := ob z
  obtain ⟨b1, zb1, z⟩ := z
  obtain ⟨yb1, zb1⟩ := rcv_e zb1
  replace z := ob z
  obtain ⟨x2, zx2, z⟩ := z
  refine c_calli hH hS hRM (fun _ _ f1 f2 => va_runV (b := b1) (As := [.int a1]) (rest := []) S (metX0_isPerson zx2) (cwV 1 hts (lw_V q1340 q1342 qs42 q167 q1343) rfl rfl rfl (by decide +kernel) ⟨(Nat.le_of_ble_eq_true rfl), (Nat.le_of_ble_eq_true rfl)⟩) (c_preV hG hH hS (ci := 0) rfl zb1) rfl rfl hl.1 (by rw [yb1]; rfl) (lv_room (Nat.le_of_ble_eq_true rfl)) dX0_refused_2 ⟨f1, f2⟩) (fun H locs hH hS => ?_)
  refine lv_if_eq (tgt := 42) hx hb dX0_refused_5 (by decide) (fun c3 => ?_) (fun c3 => ?_)
  · replace z := it c3 z
    refine lv_iconst (v := (-1 : Int32)) hx hb dX0_refused_42 (by decide) ?_
    exact c_iret S hr hlk rfl hH hS z dX0_refused_43
  replace z := ie c3 z
  refine c_aload_n hx hb dX0_refused_8 rfl (lv_at hl 0 rfl) ?_
  refine lv_iload_n hx hb dX0_refused_9 rfl (lv_at hl 2 rfl) ?_
  refine lv_iconst (v := (0 : Int32)) hx hb dX0_refused_10 (by decide) ?_
  refine lv_bipush (v := (72 : Int32)) hx hb dX0_refused_11 (by decide) ?_
  replace z := ob z
  obtain ⟨b4, zb4, z⟩ := z
  obtain ⟨yb4, zb4⟩ := rcv_e zb4
  replace z := ob z
  obtain ⟨x5, zx5, z⟩ := z
  refine c_calli hH hS hRM (fun _ _ f1 f2 => va_runV (b := b4) (As := [.int a2, .int (0 : Int32), .int (72 : Int32)]) (rest := []) S (metX0_isAhead zx5) (cwV 3 hts (lw_V q1483 q1485 qs47 q167 q1486) rfl rfl rfl (by decide +kernel) ⟨(Nat.le_of_ble_eq_true rfl), (Nat.le_of_ble_eq_true rfl)⟩) (c_preV hG hH hS (ci := 0) rfl zb4) rfl rfl hl.1 (by rw [yb4]; rfl) (lv_room (Nat.le_of_ble_eq_true rfl)) dX0_refused_13 ⟨f1, f2⟩) (fun H locs hH hS => ?_)
  refine lv_if_eq (tgt := 42) hx hb dX0_refused_16 (by decide) (fun c6 => ?_) (fun c6 => ?_)
  · replace z := it c6 z
    refine lv_iconst (v := (-1 : Int32)) hx hb dX0_refused_42 (by decide) ?_
    exact c_iret S hr hlk rfl hH hS z dX0_refused_43
  replace z := ie c6 z
  refine c_aload_n hx hb dX0_refused_19 rfl (lv_at hl 0 rfl) ?_
  replace z := ob z
  obtain ⟨v7, zv7, z⟩ := z
  obtain ⟨fsv7, yv7, zv7⟩ := gR_e zv7
  refine c_get S hG hH (ci := 0) (k := 10) rfl in_X0 (Nat.le_of_ble_eq_true rfl) q490 (fun _ y => y) yv7 zv7 dX0_refused_20 ?_
  refine c_aload_n hx hb dX0_refused_23 rfl (lv_at hl 0 rfl) ?_
  replace z := ob z
  obtain ⟨v8, zv8, z⟩ := z
  obtain ⟨fsv8, yv8, zv8⟩ := gR_e zv8
  refine c_get S hG hH (ci := 0) (k := 9) rfl in_X0 (Nat.le_of_ble_eq_true rfl) q489 (fun _ y => y) yv8 zv8 dX0_refused_24 ?_
  replace z := ob z
  obtain ⟨b9, zb9, z⟩ := z
  obtain ⟨yb9, zb9⟩ := rcv_e zb9
  replace z := ob z
  obtain ⟨x10, zx10, z⟩ := z
  refine c_callq hH hS hRM (fun _ _ f1 f2 => va_runV (b := b9) (As := [va_rf v8]) (rest := []) S (metX5_copy zx10) (cwV 1 hts (lw_V q1487 q1488 q1489 q178 q1490) rfl rfl rfl (by decide +kernel) ⟨(Nat.le_of_ble_eq_true rfl), (Nat.le_of_ble_eq_true rfl)⟩) (c_preV hG hH hS (ci := 5) rfl zb9) rfl rfl hl.1 (by rw [yb9]; rfl) (lv_room (Nat.le_of_ble_eq_true rfl)) dX0_refused_27 ⟨f1, f2⟩) (fun H locs hH hS => ?_)
  refine lv_iload_n hx hb dX0_refused_30 rfl (lv_at hl 2 rfl) ?_
  replace z := ob z
  obtain ⟨b11, zb11, z⟩ := z
  obtain ⟨yb11, zb11⟩ := rcv_e zb11
  replace z := ob z
  obtain ⟨x12, zx12, z⟩ := z
  refine c_callq hH hS hRM (fun _ _ f1 f2 => va_runV (b := b11) (As := [.int a2]) (rest := []) S (metX5_hours zx12) (cwV 1 hts (lw_V q1491 q1492 q1493 q178 q1494) rfl rfl rfl (by decide +kernel) ⟨(Nat.le_of_ble_eq_true rfl), (Nat.le_of_ble_eq_true rfl)⟩) (c_preV hG hH hS (ci := 5) rfl zb11) rfl rfl hl.1 (by rw [yb11]; rfl) (lv_room (Nat.le_of_ble_eq_true rfl)) dX0_refused_31 ⟨f1, f2⟩) (fun H locs hH hS => ?_)
  replace z := ob z
  obtain ⟨v13, zv13, z⟩ := z
  obtain ⟨fsv13, yv13, zv13⟩ := gR_e zv13
  refine c_getN S hG hH (ci := 5) (k := 8) rfl in_X5 (Nat.le_of_ble_eq_true rfl) q446 (fun _ y => y) yv13 zv13 dX0_refused_34 ?_
  refine lv_iload_n hx hb dX0_refused_37 rfl (lv_at hl 1 rfl) ?_
  replace z := ob z
  obtain ⟨v14, zv14, z⟩ := z
  refine c_iald S hG hH zv14 dX0_refused_38 ?_
  refine lv_goto (tgt := 43) hx hb dX0_refused_39 (by decide) ?_
  exact c_iret S hr hlk rfl hH hS z dX0_refused_43
/-! FourOnOne.pleasedBy(III)J -/
def fX0_pleasedBy (K : KE) (h : HS) (a0 : Nat) (a1 : Int32) (a2 : Int32) (a3 : Int32) : Option (HS × Int64) :=
  (gR K h (some a0) 0 10).bind fun v1 =>
  (gR K h (some a0) 0 9).bind fun v2 =>
  (rcv K h v1 5).bind fun b3 =>
  (fX5_copy K h b3 v2).bind fun x4 =>
  (pV x4.1 x4.2 5 1 (.int a1)).bind fun h5 =>
  (gR K h5 (some a0) 0 10).bind fun v6 =>
  (rcv K h5 v6 5).bind fun b7 =>
  (fX5_hours K h5 b7 a3).bind fun x8 =>
  (gR K x8.1 x8.2 5 7).bind fun v9 =>
  (cL K x8.1 v9 1 a2).bind fun v10 =>
  some (x8.1, v10)
set_option maxHeartbeats 4000000 in
theorem metX0_pleasedBy {l : Launch} {A : Nat → Prop} {D : va_G} {ac : Nat → ClassId} {K : KE} {h : HS} {a0 : Nat} {a1 : Int32} {a2 : Int32} {a3 : Int32} {x : HS × Int64} (z : fX0_pleasedBy K h a0 a1 a2 a3 = some x) : Met l yX0_pleasedBy (ws_ yX0_pleasedBy cX0_pleasedBy 4 (some .long)) (rmC 169 8460 K h) (cP A D ac K h [va_rf (some a0), .int a1, .int a2, .int a3]) (cQl A D ac K x) (K.2.2.1 - h.2.1) (K.2.2.2 - h.2.2) A := by
  refine c_entry (plainFor_of_name (by decide)) (Nat.le_of_ble_eq_true rfl) ?_
  intro p e s m below meth c S hr hlk hnm hG hRM hH hS ls hl
  replace hl : lv_has ls 4 [(0, va_rf (some a0)), (1, .int a1), (2, .int a2), (3, .int a3)] := hl
  replace hnm : meth.name = "pleasedBy" := hnm
  replace S : CallFix p m c cX0_pleasedBy 4 s _ lw_all RX0 := S
  obtain ⟨hx, hb, hml, hown, hts⟩ := id S
  unfold fX0_pleasedBy at z
  refine c_aload_n hx hb dX0_pleasedBy_0 rfl (lv_at hl 0 rfl) ?_
  replace z := ob z
  obtain ⟨v1, zv1, z⟩ := z
  obtain ⟨fsv1, yv1, zv1⟩ := gR_e zv1
  refine c_get S hG hH (ci := 0) (k := 10) rfl in_X0 (Nat.le_of_ble_eq_true rfl) q490 (fun _ y => y) yv1 zv1 dX0_pleasedBy_1 ?_
  refine c_aload_n hx hb dX0_pleasedBy_4 rfl (lv_at hl 0 rfl) ?_
  replace z := ob z
  obtain ⟨v2, zv2, z⟩ := z
  obtain ⟨fsv2, yv2, zv2⟩ := gR_e zv2
  refine c_get S hG hH (ci := 0) (k := 9) rfl in_X0 (Nat.le_of_ble_eq_true rfl) q489 (fun _ y => y) yv2 zv2 dX0_pleasedBy_5 ?_
  replace z := ob z
  obtain ⟨b3, zb3, z⟩ := z
  obtain ⟨yb3, zb3⟩ := rcv_e zb3
  replace z := ob z
  obtain ⟨x4, zx4, z⟩ := z
  refine c_callq hH hS hRM (fun _ _ f1 f2 => va_runV (b := b3) (As := [va_rf v2]) (rest := []) S (metX5_copy zx4) (cwV 1 hts (lw_V q1487 q1488 q1489 q178 q1490) rfl rfl rfl (by decide +kernel) ⟨(Nat.le_of_ble_eq_true rfl), (Nat.le_of_ble_eq_true rfl)⟩) (c_preV hG hH hS (ci := 5) rfl zb3) rfl rfl hl.1 (by rw [yb3]; rfl) (lv_room (Nat.le_of_ble_eq_true rfl)) dX0_pleasedBy_8 ⟨f1, f2⟩) (fun H locs hH hS => ?_)
  refine lv_iload_n hx hb dX0_pleasedBy_11 rfl (lv_at hl 1 rfl) ?_
  replace z := ob z
  obtain ⟨h5, zh5, z⟩ := z
  refine c_putN S hG hH hS (ci := 5) (k := 1) rfl in_X5 tyX5 tyX5_ok nmX5 (Nat.le_of_ble_eq_true rfl) q432 (fun _ y => y) rfl (ty := .int) rfl rfl rfl zh5 dX0_pleasedBy_12 (fun H locs hH hS => ?_)
  refine c_aload_n hx hb dX0_pleasedBy_15 rfl (lv_at hl 0 rfl) ?_
  replace z := ob z
  obtain ⟨v6, zv6, z⟩ := z
  obtain ⟨fsv6, yv6, zv6⟩ := gR_e zv6
  refine c_get S hG hH (ci := 0) (k := 10) rfl in_X0 (Nat.le_of_ble_eq_true rfl) q490 (fun _ y => y) yv6 zv6 dX0_pleasedBy_16 ?_
  refine lv_iload_n hx hb dX0_pleasedBy_19 rfl (lv_at hl 3 rfl) ?_
  replace z := ob z
  obtain ⟨b7, zb7, z⟩ := z
  obtain ⟨yb7, zb7⟩ := rcv_e zb7
  replace z := ob z
  obtain ⟨x8, zx8, z⟩ := z
  refine c_callq hH hS hRM (fun _ _ f1 f2 => va_runV (b := b7) (As := [.int a3]) (rest := []) S (metX5_hours zx8) (cwV 1 hts (lw_V q1491 q1492 q1493 q178 q1494) rfl rfl rfl (by decide +kernel) ⟨(Nat.le_of_ble_eq_true rfl), (Nat.le_of_ble_eq_true rfl)⟩) (c_preV hG hH hS (ci := 5) rfl zb7) rfl rfl hl.1 (by rw [yb7]; rfl) (lv_room (Nat.le_of_ble_eq_true rfl)) dX0_pleasedBy_20 ⟨f1, f2⟩) (fun H locs hH hS => ?_)
  replace z := ob z
  obtain ⟨v9, zv9, z⟩ := z
  obtain ⟨fsv9, yv9, zv9⟩ := gR_e zv9
  refine c_getN S hG hH (ci := 5) (k := 7) rfl in_X5 (Nat.le_of_ble_eq_true rfl) q444 (fun _ y => y) yv9 zv9 dX0_pleasedBy_23 ?_
  refine lv_iload_n hx hb dX0_pleasedBy_26 rfl (lv_at hl 2 rfl) ?_
  replace z := ob z
  obtain ⟨v10, zv10, z⟩ := z
  refine c_lald S hG hH zv10 dX0_pleasedBy_27 ?_
  exact c_lret S hr hlk hH hS z dX0_pleasedBy_28
/-! FourOnOne.pressing(II)J -/
def fX0_pressing_19 (K : KE) (a0 : Nat) (h : HS) : Option (HS × Int64) :=
  some (h, (-1000000000000000 : Int64))
def fX0_pressing (K : KE) (h : HS) (a0 : Nat) (a1 : Int32) (a2 : Int32) : Option (HS × Int64) :=
  (rcv K h (some a0) 0).bind fun b1 =>
  (fX0_isPerson K h b1 a1).bind fun x2 =>
  if x2 = 0 then
    fX0_pressing_19 K a0 h
  else
  (rcv K h (some a0) 0).bind fun b4 =>
  (fX0_isAhead K h b4 a2 (0 : Int32) (72 : Int32)).bind fun x5 =>
  if x5 = 0 then
    fX0_pressing_19 K a0 h
  else
  (gR K h (some a0) 0 9).bind fun v7 =>
  (gI K h v7 5 1).bind fun v8 =>
  (rcv K h (some a0) 0).bind fun b9 =>
  (fX0_pleasedBy K h b9 (v8 ||| ((1 : Int32) <<< (a1 &&& 31))) a1 a2).bind fun x10 =>
  (gR K x10.1 (some a0) 0 9).bind fun v11 =>
  (gI K x10.1 v11 5 1).bind fun v12 =>
  (rcv K x10.1 (some a0) 0).bind fun b13 =>
  (fX0_pleasedBy K x10.1 b13 (v12 &&& (((1 : Int32) <<< (a1 &&& 31)) ^^^ (-1 : Int32))) a1 a2).bind fun x14 =>
  some (x14.1, (x10.2 - x14.2))
set_option maxHeartbeats 4000000 in
theorem wX0_pressing_19 {p : Program} {l : Launch} {e : Env} {s : State} {m : MethodId} {args : Array Value} {below : List Frame} {meth : Method} {c : Code} {A : Nat → Prop} {D : va_G} {ac : Nat → ClassId} {K : KE} {h0 : HS} {a0 : Nat} (S : CallFix p m c cX0_pressing 3 s args lw_all RX0) (hr : meth.sig.returnType = some .long) (hlk : meth.locks = false) (hnm : meth.name = "pressing") (hG : GK A D ac K s) (hRM : RM K s (rmC 170 8483 K h0)) {x : HS × Int64} : ∀ (h : HS), fX0_pressing_19 K a0 h = some x → cGo p l e (rmC 170 8483 K h0) s m args below meth c A D ac K (MQ below (cQl A D ac K x) args s (K.2.2.1 - h0.2.1) (K.2.2.2 - h0.2.2) A) 3 19 [(0, va_rf (some a0))] [] h := by
  obtain ⟨hx, hb, hml, hown, hts⟩ := id S
  intro h z H locs hH hS ls hl
  unfold fX0_pressing_19 at z
  refine lv_ldc2 hx hb hown (hts _ q1527) dX0_pressing_19 ?_
  exact c_lret S hr hlk hH hS z dX0_pressing_22
set_option maxHeartbeats 4000000 in
theorem metX0_pressing {l : Launch} {A : Nat → Prop} {D : va_G} {ac : Nat → ClassId} {K : KE} {h : HS} {a0 : Nat} {a1 : Int32} {a2 : Int32} {x : HS × Int64} (z : fX0_pressing K h a0 a1 a2 = some x) : Met l yX0_pressing (ws_ yX0_pressing cX0_pressing 3 (some .long)) (rmC 170 8483 K h) (cP A D ac K h [va_rf (some a0), .int a1, .int a2]) (cQl A D ac K x) (K.2.2.1 - h.2.1) (K.2.2.2 - h.2.2) A := by
  refine c_entry (plainFor_of_name (by decide)) (Nat.le_of_ble_eq_true rfl) ?_
  intro p e s m below meth c S hr hlk hnm hG hRM hH hS ls hl
  replace hl : lv_has ls 3 [(0, va_rf (some a0)), (1, .int a1), (2, .int a2)] := hl
  replace hnm : meth.name = "pressing" := hnm
  replace S : CallFix p m c cX0_pressing 3 s _ lw_all RX0 := S
  obtain ⟨hx, hb, hml, hown, hts⟩ := id S
  unfold fX0_pressing at z
  refine c_aload_n hx hb dX0_pressing_0 rfl (lv_at hl 0 rfl) ?_
  refine lv_iload_n hx hb dX0_pressing_1 rfl (lv_at hl 1 rfl) ?_
  replace z := ob z
  obtain ⟨b1, zb1, z⟩ := z
  obtain ⟨yb1, zb1⟩ := rcv_e zb1
  replace z := ob z
  obtain ⟨x2, zx2, z⟩ := z
  refine c_calli hH hS hRM (fun _ _ f1 f2 => va_runV (b := b1) (As := [.int a1]) (rest := []) S (metX0_isPerson zx2) (cwV 1 hts (lw_V q1340 q1342 qs42 q167 q1343) rfl rfl rfl (by decide +kernel) ⟨(Nat.le_of_ble_eq_true rfl), (Nat.le_of_ble_eq_true rfl)⟩) (c_preV hG hH hS (ci := 0) rfl zb1) rfl rfl hl.1 (by rw [yb1]; rfl) (lv_room (Nat.le_of_ble_eq_true rfl)) dX0_pressing_2 ⟨f1, f2⟩) (fun H locs hH hS => ?_)
  refine lv_if_eq (tgt := 19) hx hb dX0_pressing_5 (by decide) (fun c3 => ?_) (fun c3 => ?_)
  · replace z := it c3 z
    exact wX0_pressing_19 S hr hlk hnm hG hRM h z _ _ hH hS _ (lv_sub hl [0] rfl)
  replace z := ie c3 z
  refine c_aload_n hx hb dX0_pressing_8 rfl (lv_at hl 0 rfl) ?_
  refine lv_iload_n hx hb dX0_pressing_9 rfl (lv_at hl 2 rfl) ?_
  refine lv_iconst (v := (0 : Int32)) hx hb dX0_pressing_10 (by decide) ?_
  refine lv_bipush (v := (72 : Int32)) hx hb dX0_pressing_11 (by decide) ?_
  replace z := ob z
  obtain ⟨b4, zb4, z⟩ := z
  obtain ⟨yb4, zb4⟩ := rcv_e zb4
  replace z := ob z
  obtain ⟨x5, zx5, z⟩ := z
  refine c_calli hH hS hRM (fun _ _ f1 f2 => va_runV (b := b4) (As := [.int a2, .int (0 : Int32), .int (72 : Int32)]) (rest := []) S (metX0_isAhead zx5) (cwV 3 hts (lw_V q1483 q1485 qs47 q167 q1486) rfl rfl rfl (by decide +kernel) ⟨(Nat.le_of_ble_eq_true rfl), (Nat.le_of_ble_eq_true rfl)⟩) (c_preV hG hH hS (ci := 0) rfl zb4) rfl rfl hl.1 (by rw [yb4]; rfl) (lv_room (Nat.le_of_ble_eq_true rfl)) dX0_pressing_13 ⟨f1, f2⟩) (fun H locs hH hS => ?_)
  refine lv_if_ne (tgt := 23) hx hb dX0_pressing_16 (by decide) (fun c6 => ?_) (fun c6 => ?_)
  rotate_left 1
  · replace z := it c6 z
    exact wX0_pressing_19 S hr hlk hnm hG hRM h z _ _ hH hS _ (lv_sub hl [0] rfl)
  replace z := ie c6 z
  refine c_aload_n hx hb dX0_pressing_23 rfl (lv_at hl 0 rfl) ?_
  refine c_aload_n hx hb dX0_pressing_24 rfl (lv_at hl 0 rfl) ?_
  replace z := ob z
  obtain ⟨v7, zv7, z⟩ := z
  obtain ⟨fsv7, yv7, zv7⟩ := gR_e zv7
  refine c_get S hG hH (ci := 0) (k := 9) rfl in_X0 (Nat.le_of_ble_eq_true rfl) q489 (fun _ y => y) yv7 zv7 dX0_pressing_25 ?_
  replace z := ob z
  obtain ⟨v8, zv8, z⟩ := z
  obtain ⟨fsv8, yv8, zv8⟩ := gI_e zv8
  refine c_getN S hG hH (ci := 5) (k := 1) rfl in_X5 (Nat.le_of_ble_eq_true rfl) q432 (fun _ y => y) yv8 zv8 dX0_pressing_28 ?_
  refine lv_iconst (v := (1 : Int32)) hx hb dX0_pressing_31 (by decide) ?_
  refine lv_iload_n hx hb dX0_pressing_32 rfl (lv_at hl 1 rfl) ?_
  refine lv_ishl hx hb dX0_pressing_33 ?_
  refine lv_ior hx hb dX0_pressing_34 ?_
  refine lv_iload_n hx hb dX0_pressing_35 rfl (lv_at hl 1 rfl) ?_
  refine lv_iload_n hx hb dX0_pressing_36 rfl (lv_at hl 2 rfl) ?_
  replace z := ob z
  obtain ⟨b9, zb9, z⟩ := z
  obtain ⟨yb9, zb9⟩ := rcv_e zb9
  replace z := ob z
  obtain ⟨x10, zx10, z⟩ := z
  refine c_calll hH hS hRM (fun _ _ f1 f2 => va_runV (b := b9) (As := [.int (v8 ||| ((1 : Int32) <<< (a1 &&& 31))), .int a1, .int a2]) (rest := []) S (metX0_pleasedBy zx10) (cwV 3 hts (lw_V q1536 q1538 qs52 q167 q1539) rfl rfl rfl (by decide +kernel) ⟨(Nat.le_of_ble_eq_true rfl), (Nat.le_of_ble_eq_true rfl)⟩) (c_preV hG hH hS (ci := 0) rfl zb9) rfl rfl hl.1 (by rw [yb9]; rfl) (lv_room (Nat.le_of_ble_eq_true rfl)) dX0_pressing_37 ⟨f1, f2⟩) (fun H locs hH hS => ?_)
  refine c_aload_n hx hb dX0_pressing_40 rfl (lv_at hl 0 rfl) ?_
  refine c_aload_n hx hb dX0_pressing_41 rfl (lv_at hl 0 rfl) ?_
  replace z := ob z
  obtain ⟨v11, zv11, z⟩ := z
  obtain ⟨fsv11, yv11, zv11⟩ := gR_e zv11
  refine c_get S hG hH (ci := 0) (k := 9) rfl in_X0 (Nat.le_of_ble_eq_true rfl) q489 (fun _ y => y) yv11 zv11 dX0_pressing_42 ?_
  replace z := ob z
  obtain ⟨v12, zv12, z⟩ := z
  obtain ⟨fsv12, yv12, zv12⟩ := gI_e zv12
  refine c_getN S hG hH (ci := 5) (k := 1) rfl in_X5 (Nat.le_of_ble_eq_true rfl) q432 (fun _ y => y) yv12 zv12 dX0_pressing_45 ?_
  refine lv_iconst (v := (1 : Int32)) hx hb dX0_pressing_48 (by decide) ?_
  refine lv_iload_n hx hb dX0_pressing_49 rfl (lv_at hl 1 rfl) ?_
  refine lv_ishl hx hb dX0_pressing_50 ?_
  refine lv_iconst (v := (-1 : Int32)) hx hb dX0_pressing_51 (by decide) ?_
  refine lv_ixor hx hb dX0_pressing_52 ?_
  refine lv_iand hx hb dX0_pressing_53 ?_
  refine lv_iload_n hx hb dX0_pressing_54 rfl (lv_at hl 1 rfl) ?_
  refine lv_iload_n hx hb dX0_pressing_55 rfl (lv_at hl 2 rfl) ?_
  replace z := ob z
  obtain ⟨b13, zb13, z⟩ := z
  obtain ⟨yb13, zb13⟩ := rcv_e zb13
  replace z := ob z
  obtain ⟨x14, zx14, z⟩ := z
  refine c_calll hH hS hRM (fun _ _ f1 f2 => va_runV (b := b13) (As := [.int (v12 &&& (((1 : Int32) <<< (a1 &&& 31)) ^^^ (-1 : Int32))), .int a1, .int a2]) (rest := [.long x10.2]) S (metX0_pleasedBy zx14) (cwV 3 hts (lw_V q1536 q1538 qs52 q167 q1539) rfl rfl rfl (by decide +kernel) ⟨(Nat.le_of_ble_eq_true rfl), (Nat.le_of_ble_eq_true rfl)⟩) (c_preV hG hH hS (ci := 0) rfl zb13) rfl rfl hl.1 (by rw [yb13]; rfl) (lv_room (Nat.le_of_ble_eq_true rfl)) dX0_pressing_56 ⟨f1, f2⟩) (fun H locs hH hS => ?_)
  refine lv_lsub hx hb dX0_pressing_59 ?_
  exact c_lret S hr hlk hH hS z dX0_pressing_60
/-! FourOnOne.rest(I)I -/
def fX0_rest_54 (K : KE) (a0 : Nat) (k17 : HS → Int32 → Int32 → Int32 → Option (HS × Int32)) : Nat → HS → Int32 → Int32 → Int32 → Int32 → Option (HS × Int32)
  | 0, _, _, _, _, _ => none
  | n + 1, h, a1, a2, a3, a4 =>
    (rcv K h (some a0) 0).bind fun b1 =>
    (fX0_people K h b1).bind fun x2 =>
    if x2 ≤ a4 then
      k17 h a1 a2 (a3 + (1 : Int32))
    else
    (gR K h (some a0) 0 11).bind fun v4 =>
    (cR K h v4 9 a3).bind fun v5 =>
    (gR K h (some a0) 0 10).bind fun v6 =>
    (gR K h v6 5 7).bind fun v7 =>
    (cL K h v7 1 a4).bind fun v8 =>
    (sCL h v5 1 a4 v8).bind fun h9 =>
    fX0_rest_54 K a0 k17 n h9 a1 a2 a3 (a4 + (1 : Int32))
def fX0_rest_132 (K : KE) (a0 : Nat) (k96 : HS → Int32 → Int32 → Option (HS × Int32)) (h : HS) (a2 : Int32) (a3 : Int32) : Option (HS × Int32) :=
  k96 h a2 (a3 + (1 : Int32))
def fX0_rest_122 (K : KE) (a0 : Nat) (k96 : HS → Int32 → Int32 → Option (HS × Int32)) (h : HS) (a2 : Int32) (a3 : Int32) : Option (HS × Int32) :=
  (rcv K h (some a0) 0).bind fun b1 =>
  (fX0_isRest K h b1 a3).bind fun x2 =>
  if x2 = 0 then
    fX0_rest_132 K a0 k96 h a2 a3
  else
  fX0_rest_132 K a0 k96 h a3 a3
def fX0_rest_96 (K : KE) (a0 : Nat) : Nat → HS → Int32 → Int32 → Option (HS × Int32)
  | 0, _, _, _ => none
  | n + 1, h, a2, a3 =>
    (rcv K h (some a0) 0).bind fun b1 =>
    (fX0_people K h b1).bind fun x2 =>
    if ((1 : Int32) <<< (x2 &&& 31)) ≤ a3 then
      some (h, a2)
    else
    if a2 = (-1 : Int32) then
      fX0_rest_122 K a0 (fun h' b2 b3 => fX0_rest_96 K a0 n h' b2 b3) h a2 a3
    else
    (fJ16_bitCount K h a3).bind fun x5 =>
    (fJ16_bitCount K h a2).bind fun x6 =>
    if x6 ≤ x5 then
      fX0_rest_132 K a0 (fun h' b2 b3 => fX0_rest_96 K a0 n h' b2 b3) h a2 a3
    else
    fX0_rest_122 K a0 (fun h' b2 b3 => fX0_rest_96 K a0 n h' b2 b3) h a2 a3
def fX0_rest_17 (K : KE) (a0 : Nat) : Nat → HS → Int32 → Int32 → Int32 → Option (HS × Int32)
  | 0, _, _, _, _ => none
  | n + 1, h, a1, a2, a3 =>
    (rcv K h (some a0) 0).bind fun b1 =>
    (fX0_people K h b1).bind fun x2 =>
    if ((1 : Int32) <<< (x2 &&& 31)) ≤ a3 then
      fX0_rest_96 K a0 FU h a2 (0 : Int32)
    else
    (gR K h (some a0) 0 10).bind fun v4 =>
    (gR K h (some a0) 0 9).bind fun v5 =>
    (rcv K h v4 5).bind fun b6 =>
    (fX5_copy K h b6 v5).bind fun x7 =>
    (pV x7.1 x7.2 5 1 (.int a3)).bind fun h8 =>
    (gR K h8 (some a0) 0 10).bind fun v9 =>
    (rcv K h8 v9 5).bind fun b10 =>
    (fX5_hours K h8 b10 a1).bind fun x11 =>
    fX0_rest_54 K a0 (fun h' b1 b2 b3 => fX0_rest_17 K a0 n h' b1 b2 b3) FU x11.1 a1 a2 a3 (0 : Int32)
def fX0_rest (K : KE) (h : HS) (a0 : Nat) (a1 : Int32) : Option (HS × Int32) :=
  (rcv K h (some a0) 0).bind fun b1 =>
  (fX0_isAhead K h b1 a1 (0 : Int32) (48 : Int32)).bind fun x2 =>
  if x2 = 0 then
    some (h, (-1 : Int32))
  else
  fX0_rest_17 K a0 FU h a1 (-1 : Int32) (0 : Int32)
set_option maxHeartbeats 4000000 in
theorem wX0_rest_54 {p : Program} {l : Launch} {e : Env} {s : State} {m : MethodId} {args : Array Value} {below : List Frame} {meth : Method} {c : Code} {A : Nat → Prop} {D : va_G} {ac : Nat → ClassId} {K : KE} {h0 : HS} {a0 : Nat} (S : CallFix p m c cX0_rest 5 s args lw_all RX0) (hr : meth.sig.returnType = some .int) (hlk : meth.locks = false) (hnm : meth.name = "rest") (hG : GK A D ac K s) (hRM : RM K s (rmC 169 8460 K h0)) {x : HS × Int32} {k17 : HS → Int32 → Int32 → Int32 → Option (HS × Int32)} (hk17 : ∀ h a1 a2 a3, k17 h a1 a2 a3 = some x → cGo p l e (rmC 169 8460 K h0) s m args below meth c A D ac K (MQ below (cQi A D ac K x) args s (K.2.2.1 - h0.2.1) (K.2.2.2 - h0.2.2) A) 5 17 [(0, va_rf (some a0)), (1, .int a1), (2, .int a2), (3, .int a3)] [] h) : ∀ (n : Nat) (h : HS) (a1 : Int32) (a2 : Int32) (a3 : Int32) (a4 : Int32), fX0_rest_54 K a0 k17 n h a1 a2 a3 a4 = some x → cGo p l e (rmC 169 8460 K h0) s m args below meth c A D ac K (MQ below (cQi A D ac K x) args s (K.2.2.1 - h0.2.1) (K.2.2.2 - h0.2.2) A) 5 54 [(0, va_rf (some a0)), (1, .int a1), (2, .int a2), (3, .int a3), (4, .int a4)] [] h := by
  obtain ⟨hx, hb, hml, hown, hts⟩ := id S
  intro n
  induction n with
  | zero => intro h a1 a2 a3 a4 z; cases z
  | succ n ih =>
    intro h a1 a2 a3 a4 z H locs hH hS ls hl
    rw [fX0_rest_54] at z
    refine lv_iload hx hb dX0_rest_54 (lv_at hl 4 rfl) ?_
    refine c_aload_n hx hb dX0_rest_56 rfl (lv_at hl 0 rfl) ?_
    replace z := ob z
    obtain ⟨b1, zb1, z⟩ := z
    obtain ⟨yb1, zb1⟩ := rcv_e zb1
    replace z := ob z
    obtain ⟨x2, zx2, z⟩ := z
    refine c_calli hH hS hRM (fun _ _ f1 f2 => va_runV (b := b1) (As := []) (rest := [.int a4]) S (metX0_people zx2) (cwV 0 hts (lw_V q1278 q1280 qs37 q167 q1281) rfl rfl rfl (by decide +kernel) ⟨(Nat.le_of_ble_eq_true rfl), (Nat.le_of_ble_eq_true rfl)⟩) (c_preV hG hH hS (ci := 0) rfl zb1) rfl rfl hl.1 (by rw [yb1]; rfl) (lv_room (Nat.le_of_ble_eq_true rfl)) dX0_rest_57 ⟨f1, f2⟩) (fun H locs hH hS => ?_)
    refine lv_icmp_ge (tgt := 88) hx hb dX0_rest_60 (by decide) (fun c3 => ?_) (fun c3 => ?_)
    · replace z := it c3 z
      refine lv_iinc (v := (a3 + (1 : Int32))) (lv' := [(3, .int (a3 + (1 : Int32))), (0, va_rf (some a0)), (1, .int a1), (2, .int a2), (4, .int a4)]) hx hb dX0_rest_88 hl (k := 3) rfl rfl (by decide) rfl (fun ls hl => ?_)
      refine lv_goto (tgt := 17) hx hb dX0_rest_91 (by decide) ?_
      exact hk17 h a1 a2 (a3 + (1 : Int32)) z _ _ hH hS _ (lv_sub hl [1, 2, 3, 0] rfl)
    replace z := ie c3 z
    refine c_aload_n hx hb dX0_rest_63 rfl (lv_at hl 0 rfl) ?_
    replace z := ob z
    obtain ⟨v4, zv4, z⟩ := z
    obtain ⟨fsv4, yv4, zv4⟩ := gR_e zv4
    refine c_get S hG hH (ci := 0) (k := 11) rfl in_X0 (Nat.le_of_ble_eq_true rfl) q491 (fun _ y => y) yv4 zv4 dX0_rest_64 ?_
    refine lv_iload_n hx hb dX0_rest_67 rfl (lv_at hl 3 rfl) ?_
    replace z := ob z
    obtain ⟨v5, zv5, z⟩ := z
    refine c_aald S hG hH 9 rfl rfl zv5 dX0_rest_68 ?_
    refine lv_iload hx hb dX0_rest_69 (lv_at hl 4 rfl) ?_
    refine c_aload_n hx hb dX0_rest_71 rfl (lv_at hl 0 rfl) ?_
    replace z := ob z
    obtain ⟨v6, zv6, z⟩ := z
    obtain ⟨fsv6, yv6, zv6⟩ := gR_e zv6
    refine c_get S hG hH (ci := 0) (k := 10) rfl in_X0 (Nat.le_of_ble_eq_true rfl) q490 (fun _ y => y) yv6 zv6 dX0_rest_72 ?_
    replace z := ob z
    obtain ⟨v7, zv7, z⟩ := z
    obtain ⟨fsv7, yv7, zv7⟩ := gR_e zv7
    refine c_getN S hG hH (ci := 5) (k := 7) rfl in_X5 (Nat.le_of_ble_eq_true rfl) q444 (fun _ y => y) yv7 zv7 dX0_rest_75 ?_
    refine lv_iload hx hb dX0_rest_78 (lv_at hl 4 rfl) ?_
    replace z := ob z
    obtain ⟨v8, zv8, z⟩ := z
    refine c_lald S hG hH zv8 dX0_rest_80 ?_
    replace z := ob z
    obtain ⟨h9, zh9, z⟩ := z
    refine c_last S hG hH hS zh9 dX0_rest_81 (fun H locs hH hS => ?_)
    refine lv_iinc (v := (a4 + (1 : Int32))) (lv' := [(4, .int (a4 + (1 : Int32))), (0, va_rf (some a0)), (1, .int a1), (2, .int a2), (3, .int a3)]) hx hb dX0_rest_82 hl (k := 4) rfl rfl (by decide) rfl (fun ls hl => ?_)
    refine lv_goto (tgt := 54) hx hb dX0_rest_85 (by decide) ?_
    exact ih h9 a1 a2 a3 (a4 + (1 : Int32)) z _ _ hH hS _ (lv_sub hl [1, 2, 3, 4, 0] rfl)
set_option maxHeartbeats 4000000 in
theorem wX0_rest_132 {p : Program} {l : Launch} {e : Env} {s : State} {m : MethodId} {args : Array Value} {below : List Frame} {meth : Method} {c : Code} {A : Nat → Prop} {D : va_G} {ac : Nat → ClassId} {K : KE} {h0 : HS} {a0 : Nat} (S : CallFix p m c cX0_rest 5 s args lw_all RX0) (hr : meth.sig.returnType = some .int) (hlk : meth.locks = false) (hnm : meth.name = "rest") (hG : GK A D ac K s) (hRM : RM K s (rmC 169 8460 K h0)) {x : HS × Int32} {k96 : HS → Int32 → Int32 → Option (HS × Int32)} (hk96 : ∀ h a2 a3, k96 h a2 a3 = some x → cGo p l e (rmC 169 8460 K h0) s m args below meth c A D ac K (MQ below (cQi A D ac K x) args s (K.2.2.1 - h0.2.1) (K.2.2.2 - h0.2.2) A) 5 96 [(0, va_rf (some a0)), (2, .int a2), (3, .int a3)] [] h) : ∀ (h : HS) (a2 : Int32) (a3 : Int32), fX0_rest_132 K a0 k96 h a2 a3 = some x → cGo p l e (rmC 169 8460 K h0) s m args below meth c A D ac K (MQ below (cQi A D ac K x) args s (K.2.2.1 - h0.2.1) (K.2.2.2 - h0.2.2) A) 5 132 [(0, va_rf (some a0)), (2, .int a2), (3, .int a3)] [] h := by
  obtain ⟨hx, hb, hml, hown, hts⟩ := id S
  intro h a2 a3 z H locs hH hS ls hl
  unfold fX0_rest_132 at z
  refine lv_iinc (v := (a3 + (1 : Int32))) (lv' := [(3, .int (a3 + (1 : Int32))), (0, va_rf (some a0)), (2, .int a2)]) hx hb dX0_rest_132 hl (k := 2) rfl rfl (by decide) rfl (fun ls hl => ?_)
  refine lv_goto (tgt := 96) hx hb dX0_rest_135 (by decide) ?_
  exact hk96 h a2 (a3 + (1 : Int32)) z _ _ hH hS _ (lv_sub hl [1, 2, 0] rfl)
set_option maxHeartbeats 4000000 in
theorem wX0_rest_122 {p : Program} {l : Launch} {e : Env} {s : State} {m : MethodId} {args : Array Value} {below : List Frame} {meth : Method} {c : Code} {A : Nat → Prop} {D : va_G} {ac : Nat → ClassId} {K : KE} {h0 : HS} {a0 : Nat} (S : CallFix p m c cX0_rest 5 s args lw_all RX0) (hr : meth.sig.returnType = some .int) (hlk : meth.locks = false) (hnm : meth.name = "rest") (hG : GK A D ac K s) (hRM : RM K s (rmC 169 8460 K h0)) {x : HS × Int32} {k96 : HS → Int32 → Int32 → Option (HS × Int32)} (hk96 : ∀ h a2 a3, k96 h a2 a3 = some x → cGo p l e (rmC 169 8460 K h0) s m args below meth c A D ac K (MQ below (cQi A D ac K x) args s (K.2.2.1 - h0.2.1) (K.2.2.2 - h0.2.2) A) 5 96 [(0, va_rf (some a0)), (2, .int a2), (3, .int a3)] [] h) : ∀ (h : HS) (a2 : Int32) (a3 : Int32), fX0_rest_122 K a0 k96 h a2 a3 = some x → cGo p l e (rmC 169 8460 K h0) s m args below meth c A D ac K (MQ below (cQi A D ac K x) args s (K.2.2.1 - h0.2.1) (K.2.2.2 - h0.2.2) A) 5 122 [(0, va_rf (some a0)), (2, .int a2), (3, .int a3)] [] h := by
  obtain ⟨hx, hb, hml, hown, hts⟩ := id S
  intro h a2 a3 z H locs hH hS ls hl
  unfold fX0_rest_122 at z
  refine c_aload_n hx hb dX0_rest_122 rfl (lv_at hl 0 rfl) ?_
  refine lv_iload_n hx hb dX0_rest_123 rfl (lv_at hl 2 rfl) ?_
  replace z := ob z
  obtain ⟨b1, zb1, z⟩ := z
  obtain ⟨yb1, zb1⟩ := rcv_e zb1
  replace z := ob z
  obtain ⟨x2, zx2, z⟩ := z
  refine c_calli hH hS hRM (fun _ _ f1 f2 => va_runV (b := b1) (As := [.int a3]) (rest := []) S (metX0_isRest zx2) (cwV 1 hts (lw_V q1544 q1546 qs53 q167 q1547) rfl rfl rfl (by decide +kernel) ⟨(Nat.le_of_ble_eq_true rfl), (Nat.le_of_ble_eq_true rfl)⟩) (c_preV hG hH hS (ci := 0) rfl zb1) rfl rfl hl.1 (by rw [yb1]; rfl) (lv_room (Nat.le_of_ble_eq_true rfl)) dX0_rest_124 ⟨f1, f2⟩) (fun H locs hH hS => ?_)
  refine lv_if_eq (tgt := 132) hx hb dX0_rest_127 (by decide) (fun c3 => ?_) (fun c3 => ?_)
  · replace z := it c3 z
    exact wX0_rest_132 S hr hlk hnm hG hRM hk96 h a2 a3 z _ _ hH hS _ (lv_sub hl [0, 1, 2] rfl)
  replace z := ie c3 z
  refine lv_iload_n hx hb dX0_rest_130 rfl (lv_at hl 2 rfl) ?_
  refine lv_istore_n (lv' := [(2, .int a3), (0, va_rf (some a0)), (3, .int a3)]) hx hb dX0_rest_131 rfl hl (by decide) rfl (fun ls hl => ?_)
  exact wX0_rest_132 S hr hlk hnm hG hRM hk96 h a3 a3 z _ _ hH hS _ (lv_sub hl [1, 0, 2] rfl)
set_option maxHeartbeats 4000000 in
theorem wX0_rest_96 {p : Program} {l : Launch} {e : Env} {s : State} {m : MethodId} {args : Array Value} {below : List Frame} {meth : Method} {c : Code} {A : Nat → Prop} {D : va_G} {ac : Nat → ClassId} {K : KE} {h0 : HS} {a0 : Nat} (S : CallFix p m c cX0_rest 5 s args lw_all RX0) (hr : meth.sig.returnType = some .int) (hlk : meth.locks = false) (hnm : meth.name = "rest") (hG : GK A D ac K s) (hRM : RM K s (rmC 169 8460 K h0)) {x : HS × Int32} : ∀ (n : Nat) (h : HS) (a2 : Int32) (a3 : Int32), fX0_rest_96 K a0 n h a2 a3 = some x → cGo p l e (rmC 169 8460 K h0) s m args below meth c A D ac K (MQ below (cQi A D ac K x) args s (K.2.2.1 - h0.2.1) (K.2.2.2 - h0.2.2) A) 5 96 [(0, va_rf (some a0)), (2, .int a2), (3, .int a3)] [] h := by
  obtain ⟨hx, hb, hml, hown, hts⟩ := id S
  intro n
  induction n with
  | zero => intro h a2 a3 z; cases z
  | succ n ih =>
    intro h a2 a3 z H locs hH hS ls hl
    rw [fX0_rest_96] at z
    refine lv_iload_n hx hb dX0_rest_96 rfl (lv_at hl 2 rfl) ?_
    refine lv_iconst (v := (1 : Int32)) hx hb dX0_rest_97 (by decide) ?_
    refine c_aload_n hx hb dX0_rest_98 rfl (lv_at hl 0 rfl) ?_
    replace z := ob z
    obtain ⟨b1, zb1, z⟩ := z
    obtain ⟨yb1, zb1⟩ := rcv_e zb1
    replace z := ob z
    obtain ⟨x2, zx2, z⟩ := z
    refine c_calli hH hS hRM (fun _ _ f1 f2 => va_runV (b := b1) (As := []) (rest := [.int (1 : Int32), .int a3]) S (metX0_people zx2) (cwV 0 hts (lw_V q1278 q1280 qs37 q167 q1281) rfl rfl rfl (by decide +kernel) ⟨(Nat.le_of_ble_eq_true rfl), (Nat.le_of_ble_eq_true rfl)⟩) (c_preV hG hH hS (ci := 0) rfl zb1) rfl rfl hl.1 (by rw [yb1]; rfl) (lv_room (Nat.le_of_ble_eq_true rfl)) dX0_rest_99 ⟨f1, f2⟩) (fun H locs hH hS => ?_)
    refine lv_ishl hx hb dX0_rest_102 ?_
    refine lv_icmp_ge (tgt := 138) hx hb dX0_rest_103 (by decide) (fun c3 => ?_) (fun c3 => ?_)
    · replace z := it c3 z
      refine lv_iload_n hx hb dX0_rest_138 rfl (lv_at hl 1 rfl) ?_
      exact c_iret S hr hlk rfl hH hS z dX0_rest_139
    replace z := ie c3 z
    refine lv_iload_n hx hb dX0_rest_106 rfl (lv_at hl 1 rfl) ?_
    refine lv_iconst (v := (-1 : Int32)) hx hb dX0_rest_107 (by decide) ?_
    refine lv_icmp_eq (tgt := 122) hx hb dX0_rest_108 (by decide) (fun c4 => ?_) (fun c4 => ?_)
    · replace z := it c4 z
      exact wX0_rest_122 S hr hlk hnm hG hRM ih h a2 a3 z _ _ hH hS _ (lv_sub hl [0, 1, 2] rfl)
    replace z := ie c4 z
    refine lv_iload_n hx hb dX0_rest_111 rfl (lv_at hl 2 rfl) ?_
    replace z := ob z
    obtain ⟨x5, zx5, z⟩ := z
    refine c_calli hH hS hRM (fun _ _ f1 f2 => va_runS (As := [.int a3]) (rest := []) S (metJ16_bitCount zx5) (va_cwS 1 hts (lw_S q1282 q1283 q205 q1284) rfl rfl rfl (by decide +kernel) ⟨(Nat.le_of_ble_eq_true rfl), (Nat.le_of_ble_eq_true rfl)⟩) (c_pre hG hH hS) rfl rfl hl.1 rfl (lv_room (Nat.le_of_ble_eq_true rfl)) dX0_rest_112 ⟨f1, f2⟩) (fun H locs hH hS => ?_)
    refine lv_iload_n hx hb dX0_rest_115 rfl (lv_at hl 1 rfl) ?_
    replace z := ob z
    obtain ⟨x6, zx6, z⟩ := z
    refine c_calli hH hS hRM (fun _ _ f1 f2 => va_runS (As := [.int a2]) (rest := [.int x5]) S (metJ16_bitCount zx6) (va_cwS 1 hts (lw_S q1282 q1283 q205 q1284) rfl rfl rfl (by decide +kernel) ⟨(Nat.le_of_ble_eq_true rfl), (Nat.le_of_ble_eq_true rfl)⟩) (c_pre hG hH hS) rfl rfl hl.1 rfl (lv_room (Nat.le_of_ble_eq_true rfl)) dX0_rest_116 ⟨f1, f2⟩) (fun H locs hH hS => ?_)
    refine lv_icmp_ge (tgt := 132) hx hb dX0_rest_119 (by decide) (fun c7 => ?_) (fun c7 => ?_)
    · replace z := it c7 z
      exact wX0_rest_132 S hr hlk hnm hG hRM ih h a2 a3 z _ _ hH hS _ (lv_sub hl [0, 1, 2] rfl)
    replace z := ie c7 z
    exact wX0_rest_122 S hr hlk hnm hG hRM ih h a2 a3 z _ _ hH hS _ (lv_sub hl [0, 1, 2] rfl)
set_option maxHeartbeats 4000000 in
theorem wX0_rest_17 {p : Program} {l : Launch} {e : Env} {s : State} {m : MethodId} {args : Array Value} {below : List Frame} {meth : Method} {c : Code} {A : Nat → Prop} {D : va_G} {ac : Nat → ClassId} {K : KE} {h0 : HS} {a0 : Nat} (S : CallFix p m c cX0_rest 5 s args lw_all RX0) (hr : meth.sig.returnType = some .int) (hlk : meth.locks = false) (hnm : meth.name = "rest") (hG : GK A D ac K s) (hRM : RM K s (rmC 169 8460 K h0)) {x : HS × Int32} : ∀ (n : Nat) (h : HS) (a1 : Int32) (a2 : Int32) (a3 : Int32), fX0_rest_17 K a0 n h a1 a2 a3 = some x → cGo p l e (rmC 169 8460 K h0) s m args below meth c A D ac K (MQ below (cQi A D ac K x) args s (K.2.2.1 - h0.2.1) (K.2.2.2 - h0.2.2) A) 5 17 [(0, va_rf (some a0)), (1, .int a1), (2, .int a2), (3, .int a3)] [] h := by
  obtain ⟨hx, hb, hml, hown, hts⟩ := id S
  intro n
  induction n with
  | zero => intro h a1 a2 a3 z; cases z
  | succ n ih =>
    intro h a1 a2 a3 z H locs hH hS ls hl
    rw [fX0_rest_17] at z
    refine lv_iload_n hx hb dX0_rest_17 rfl (lv_at hl 3 rfl) ?_
    refine lv_iconst (v := (1 : Int32)) hx hb dX0_rest_18 (by decide) ?_
    refine c_aload_n hx hb dX0_rest_19 rfl (lv_at hl 0 rfl) ?_
    replace z := ob z
    obtain ⟨b1, zb1, z⟩ := z
    obtain ⟨yb1, zb1⟩ := rcv_e zb1
    replace z := ob z
    obtain ⟨x2, zx2, z⟩ := z
    refine c_calli hH hS hRM (fun _ _ f1 f2 => va_runV (b := b1) (As := []) (rest := [.int (1 : Int32), .int a3]) S (metX0_people zx2) (cwV 0 hts (lw_V q1278 q1280 qs37 q167 q1281) rfl rfl rfl (by decide +kernel) ⟨(Nat.le_of_ble_eq_true rfl), (Nat.le_of_ble_eq_true rfl)⟩) (c_preV hG hH hS (ci := 0) rfl zb1) rfl rfl hl.1 (by rw [yb1]; rfl) (lv_room (Nat.le_of_ble_eq_true rfl)) dX0_rest_20 ⟨f1, f2⟩) (fun H locs hH hS => ?_)
    refine lv_ishl hx hb dX0_rest_23 ?_
    refine lv_icmp_ge (tgt := 94) hx hb dX0_rest_24 (by decide) (fun c3 => ?_) (fun c3 => ?_)
    · replace z := it c3 z
      refine lv_iconst (v := (0 : Int32)) hx hb dX0_rest_94 (by decide) ?_
      refine lv_istore_n (lv' := [(3, .int (0 : Int32)), (0, va_rf (some a0)), (1, .int a1), (2, .int a2)]) hx hb dX0_rest_95 rfl hl (by decide) rfl (fun ls hl => ?_)
      exact wX0_rest_96 S hr hlk hnm hG hRM FU h a2 (0 : Int32) z _ _ hH hS _ (lv_sub hl [1, 3, 0] rfl)
    replace z := ie c3 z
    refine c_aload_n hx hb dX0_rest_27 rfl (lv_at hl 0 rfl) ?_
    replace z := ob z
    obtain ⟨v4, zv4, z⟩ := z
    obtain ⟨fsv4, yv4, zv4⟩ := gR_e zv4
    refine c_get S hG hH (ci := 0) (k := 10) rfl in_X0 (Nat.le_of_ble_eq_true rfl) q490 (fun _ y => y) yv4 zv4 dX0_rest_28 ?_
    refine c_aload_n hx hb dX0_rest_31 rfl (lv_at hl 0 rfl) ?_
    replace z := ob z
    obtain ⟨v5, zv5, z⟩ := z
    obtain ⟨fsv5, yv5, zv5⟩ := gR_e zv5
    refine c_get S hG hH (ci := 0) (k := 9) rfl in_X0 (Nat.le_of_ble_eq_true rfl) q489 (fun _ y => y) yv5 zv5 dX0_rest_32 ?_
    replace z := ob z
    obtain ⟨b6, zb6, z⟩ := z
    obtain ⟨yb6, zb6⟩ := rcv_e zb6
    replace z := ob z
    obtain ⟨x7, zx7, z⟩ := z
    refine c_callq hH hS hRM (fun _ _ f1 f2 => va_runV (b := b6) (As := [va_rf v5]) (rest := []) S (metX5_copy zx7) (cwV 1 hts (lw_V q1487 q1488 q1489 q178 q1490) rfl rfl rfl (by decide +kernel) ⟨(Nat.le_of_ble_eq_true rfl), (Nat.le_of_ble_eq_true rfl)⟩) (c_preV hG hH hS (ci := 5) rfl zb6) rfl rfl hl.1 (by rw [yb6]; rfl) (lv_room (Nat.le_of_ble_eq_true rfl)) dX0_rest_35 ⟨f1, f2⟩) (fun H locs hH hS => ?_)
    refine lv_iload_n hx hb dX0_rest_38 rfl (lv_at hl 3 rfl) ?_
    replace z := ob z
    obtain ⟨h8, zh8, z⟩ := z
    refine c_putN S hG hH hS (ci := 5) (k := 1) rfl in_X5 tyX5 tyX5_ok nmX5 (Nat.le_of_ble_eq_true rfl) q432 (fun _ y => y) rfl (ty := .int) rfl rfl rfl zh8 dX0_rest_39 (fun H locs hH hS => ?_)
    refine c_aload_n hx hb dX0_rest_42 rfl (lv_at hl 0 rfl) ?_
    replace z := ob z
    obtain ⟨v9, zv9, z⟩ := z
    obtain ⟨fsv9, yv9, zv9⟩ := gR_e zv9
    refine c_get S hG hH (ci := 0) (k := 10) rfl in_X0 (Nat.le_of_ble_eq_true rfl) q490 (fun _ y => y) yv9 zv9 dX0_rest_43 ?_
    refine lv_iload_n hx hb dX0_rest_46 rfl (lv_at hl 1 rfl) ?_
    replace z := ob z
    obtain ⟨b10, zb10, z⟩ := z
    obtain ⟨yb10, zb10⟩ := rcv_e zb10
    replace z := ob z
    obtain ⟨x11, zx11, z⟩ := z
    refine c_callq hH hS hRM (fun _ _ f1 f2 => va_runV (b := b10) (As := [.int a1]) (rest := []) S (metX5_hours zx11) (cwV 1 hts (lw_V q1491 q1492 q1493 q178 q1494) rfl rfl rfl (by decide +kernel) ⟨(Nat.le_of_ble_eq_true rfl), (Nat.le_of_ble_eq_true rfl)⟩) (c_preV hG hH hS (ci := 5) rfl zb10) rfl rfl hl.1 (by rw [yb10]; rfl) (lv_room (Nat.le_of_ble_eq_true rfl)) dX0_rest_47 ⟨f1, f2⟩) (fun H locs hH hS => ?_)
    refine lv_pop hx hb dX0_rest_50 (ct_r _) ?_
    refine lv_iconst (v := (0 : Int32)) hx hb dX0_rest_51 (by decide) ?_
    refine lv_istore (lv' := [(4, .int (0 : Int32)), (0, va_rf (some a0)), (1, .int a1), (2, .int a2), (3, .int a3)]) hx hb dX0_rest_52 hl (by decide) rfl (fun ls hl => ?_)
    exact wX0_rest_54 S hr hlk hnm hG hRM ih FU x11.1 a1 a2 a3 (0 : Int32) z _ _ hH hS _ (lv_sub hl [1, 2, 3, 4, 0] rfl)
set_option maxHeartbeats 4000000 in
theorem metX0_rest {l : Launch} {A : Nat → Prop} {D : va_G} {ac : Nat → ClassId} {K : KE} {h : HS} {a0 : Nat} {a1 : Int32} {x : HS × Int32} (z : fX0_rest K h a0 a1 = some x) : Met l yX0_rest (ws_ yX0_rest cX0_rest 5 (some .int)) (rmC 169 8460 K h) (cP A D ac K h [va_rf (some a0), .int a1]) (cQi A D ac K x) (K.2.2.1 - h.2.1) (K.2.2.2 - h.2.2) A := by
  refine c_entry (plainFor_of_name (by decide)) (Nat.le_of_ble_eq_true rfl) ?_
  intro p e s m below meth c S hr hlk hnm hG hRM hH hS ls hl
  replace hl : lv_has ls 5 [(0, va_rf (some a0)), (1, .int a1)] := hl
  replace hnm : meth.name = "rest" := hnm
  replace S : CallFix p m c cX0_rest 5 s _ lw_all RX0 := S
  obtain ⟨hx, hb, hml, hown, hts⟩ := id S
  unfold fX0_rest at z
  refine c_aload_n hx hb dX0_rest_0 rfl (lv_at hl 0 rfl) ?_
  refine lv_iload_n hx hb dX0_rest_1 rfl (lv_at hl 1 rfl) ?_
  refine lv_iconst (v := (0 : Int32)) hx hb dX0_rest_2 (by decide) ?_
  refine lv_bipush (v := (48 : Int32)) hx hb dX0_rest_3 (by decide) ?_
  replace z := ob z
  obtain ⟨b1, zb1, z⟩ := z
  obtain ⟨yb1, zb1⟩ := rcv_e zb1
  replace z := ob z
  obtain ⟨x2, zx2, z⟩ := z
  refine c_calli hH hS hRM (fun _ _ f1 f2 => va_runV (b := b1) (As := [.int a1, .int (0 : Int32), .int (48 : Int32)]) (rest := []) S (metX0_isAhead zx2) (cwV 3 hts (lw_V q1483 q1485 qs47 q167 q1486) rfl rfl rfl (by decide +kernel) ⟨(Nat.le_of_ble_eq_true rfl), (Nat.le_of_ble_eq_true rfl)⟩) (c_preV hG hH hS (ci := 0) rfl zb1) rfl rfl hl.1 (by rw [yb1]; rfl) (lv_room (Nat.le_of_ble_eq_true rfl)) dX0_rest_5 ⟨f1, f2⟩) (fun H locs hH hS => ?_)
  refine lv_if_ne (tgt := 13) hx hb dX0_rest_8 (by decide) (fun c3 => ?_) (fun c3 => ?_)
  rotate_left 1
  · replace z := it c3 z
    refine lv_iconst (v := (-1 : Int32)) hx hb dX0_rest_11 (by decide) ?_
    exact c_iret S hr hlk rfl hH hS z dX0_rest_12
  replace z := ie c3 z
  refine lv_iconst (v := (-1 : Int32)) hx hb dX0_rest_13 (by decide) ?_
  refine lv_istore_n (lv' := [(2, .int (-1 : Int32)), (0, va_rf (some a0)), (1, .int a1)]) hx hb dX0_rest_14 rfl hl (by decide) rfl (fun ls hl => ?_)
  refine lv_iconst (v := (0 : Int32)) hx hb dX0_rest_15 (by decide) ?_
  refine lv_istore_n (lv' := [(3, .int (0 : Int32)), (2, .int (-1 : Int32)), (0, va_rf (some a0)), (1, .int a1)]) hx hb dX0_rest_16 rfl hl (by decide) rfl (fun ls hl => ?_)
  exact wX0_rest_17 S hr hlk hnm hG hRM FU h a1 (-1 : Int32) (0 : Int32) z _ _ hH hS _ (lv_sub hl [2, 3, 1, 0] rfl)
/-! FourOnOne.gone(II)I -/
def fX0_gone_32 (K : KE) (a0 : Nat) : Nat → HS → Int32 → Int32 → Int32 → Option (HS × Int32)
  | 0, _, _, _, _ => none
  | n + 1, h, a1, a2, a3 =>
    (rcv K h (some a0) 0).bind fun b1 =>
    (fX0_isAhead K h b1 a3 (0 : Int32) (72 : Int32)).bind fun x2 =>
    if x2 = 0 then
      some (h, (-1 : Int32))
    else
    (gR K h (some a0) 0 10).bind fun v4 =>
    (gR K h v4 5 3).bind fun v5 =>
    (gR K h (some a0) 0 10).bind fun v6 =>
    (rcv K h v6 5).bind fun b7 =>
    (fX5_profile K h b7 a1).bind fun x8 =>
    (cR K h v5 8 x8).bind fun v9 =>
    (cI K h v9 0 a2).bind fun v10 =>
    if v10 = 0 then
      some (h, a3)
    else
    (gR K h (some a0) 0 10).bind fun v12 =>
    (rcv K h v12 5).bind fun b13 =>
    (fX5_passes K h b13).bind fun x14 =>
    fX0_gone_32 K a0 n x14.1 a1 a2 (a3 + (1 : Int32))
def fX0_gone (K : KE) (h : HS) (a0 : Nat) (a1 : Int32) (a2 : Int32) : Option (HS × Int32) :=
  (rcv K h (some a0) 0).bind fun b1 =>
  (fX0_isPerson K h b1 a1).bind fun x2 =>
  if x2 = 0 then
    some (h, (-1 : Int32))
  else
  (rcv K h (some a0) 0).bind fun b4 =>
  (fX0_isKind K h b4 a2).bind fun x5 =>
  if x5 = 0 then
    some (h, (-1 : Int32))
  else
  (gR K h (some a0) 0 10).bind fun v7 =>
  (gR K h (some a0) 0 9).bind fun v8 =>
  (rcv K h v7 5).bind fun b9 =>
  (fX5_copy K h b9 v8).bind fun x10 =>
  fX0_gone_32 K a0 FU x10.1 a1 a2 (0 : Int32)
set_option maxHeartbeats 4000000 in
theorem wX0_gone_32 {p : Program} {l : Launch} {e : Env} {s : State} {m : MethodId} {args : Array Value} {below : List Frame} {meth : Method} {c : Code} {A : Nat → Prop} {D : va_G} {ac : Nat → ClassId} {K : KE} {h0 : HS} {a0 : Nat} (S : CallFix p m c cX0_gone 4 s args lw_all RX0) (hr : meth.sig.returnType = some .int) (hlk : meth.locks = false) (hnm : meth.name = "gone") (hG : GK A D ac K s) (hRM : RM K s (rmC 168 8438 K h0)) {x : HS × Int32} : ∀ (n : Nat) (h : HS) (a1 : Int32) (a2 : Int32) (a3 : Int32), fX0_gone_32 K a0 n h a1 a2 a3 = some x → cGo p l e (rmC 168 8438 K h0) s m args below meth c A D ac K (MQ below (cQi A D ac K x) args s (K.2.2.1 - h0.2.1) (K.2.2.2 - h0.2.2) A) 4 32 [(0, va_rf (some a0)), (1, .int a1), (2, .int a2), (3, .int a3)] [] h := by
  obtain ⟨hx, hb, hml, hown, hts⟩ := id S
  intro n
  induction n with
  | zero => intro h a1 a2 a3 z; cases z
  | succ n ih =>
    intro h a1 a2 a3 z H locs hH hS ls hl
    rw [fX0_gone_32] at z
    refine c_aload_n hx hb dX0_gone_32 rfl (lv_at hl 0 rfl) ?_
    refine lv_iload_n hx hb dX0_gone_33 rfl (lv_at hl 3 rfl) ?_
    refine lv_iconst (v := (0 : Int32)) hx hb dX0_gone_34 (by decide) ?_
    refine lv_bipush (v := (72 : Int32)) hx hb dX0_gone_35 (by decide) ?_
    replace z := ob z
    obtain ⟨b1, zb1, z⟩ := z
    obtain ⟨yb1, zb1⟩ := rcv_e zb1
    replace z := ob z
    obtain ⟨x2, zx2, z⟩ := z
    refine c_calli hH hS hRM (fun _ _ f1 f2 => va_runV (b := b1) (As := [.int a3, .int (0 : Int32), .int (72 : Int32)]) (rest := []) S (metX0_isAhead zx2) (cwV 3 hts (lw_V q1483 q1485 qs47 q167 q1486) rfl rfl rfl (by decide +kernel) ⟨(Nat.le_of_ble_eq_true rfl), (Nat.le_of_ble_eq_true rfl)⟩) (c_preV hG hH hS (ci := 0) rfl zb1) rfl rfl hl.1 (by rw [yb1]; rfl) (lv_room (Nat.le_of_ble_eq_true rfl)) dX0_gone_37 ⟨f1, f2⟩) (fun H locs hH hS => ?_)
    refine lv_if_eq (tgt := 80) hx hb dX0_gone_40 (by decide) (fun c3 => ?_) (fun c3 => ?_)
    · replace z := it c3 z
      refine lv_iconst (v := (-1 : Int32)) hx hb dX0_gone_80 (by decide) ?_
      exact c_iret S hr hlk rfl hH hS z dX0_gone_81
    replace z := ie c3 z
    refine c_aload_n hx hb dX0_gone_43 rfl (lv_at hl 0 rfl) ?_
    replace z := ob z
    obtain ⟨v4, zv4, z⟩ := z
    obtain ⟨fsv4, yv4, zv4⟩ := gR_e zv4
    refine c_get S hG hH (ci := 0) (k := 10) rfl in_X0 (Nat.le_of_ble_eq_true rfl) q490 (fun _ y => y) yv4 zv4 dX0_gone_44 ?_
    replace z := ob z
    obtain ⟨v5, zv5, z⟩ := z
    obtain ⟨fsv5, yv5, zv5⟩ := gR_e zv5
    refine c_getN S hG hH (ci := 5) (k := 3) rfl in_X5 (Nat.le_of_ble_eq_true rfl) q436 (fun _ y => y) yv5 zv5 dX0_gone_47 ?_
    refine c_aload_n hx hb dX0_gone_50 rfl (lv_at hl 0 rfl) ?_
    replace z := ob z
    obtain ⟨v6, zv6, z⟩ := z
    obtain ⟨fsv6, yv6, zv6⟩ := gR_e zv6
    refine c_get S hG hH (ci := 0) (k := 10) rfl in_X0 (Nat.le_of_ble_eq_true rfl) q490 (fun _ y => y) yv6 zv6 dX0_gone_51 ?_
    refine lv_iload_n hx hb dX0_gone_54 rfl (lv_at hl 1 rfl) ?_
    replace z := ob z
    obtain ⟨b7, zb7, z⟩ := z
    obtain ⟨yb7, zb7⟩ := rcv_e zb7
    replace z := ob z
    obtain ⟨x8, zx8, z⟩ := z
    refine c_calli hH hS hRM (fun _ _ f1 f2 => va_runV (b := b7) (As := [.int a1]) (rest := [va_rf v5]) S (metX5_profile zx8) (cwV 1 hts (lw_V q1552 q1367 q1368 q178 q1369) rfl rfl rfl (by decide +kernel) ⟨(Nat.le_of_ble_eq_true rfl), (Nat.le_of_ble_eq_true rfl)⟩) (c_preV hG hH hS (ci := 5) rfl zb7) rfl rfl hl.1 (by rw [yb7]; rfl) (lv_room (by simp [ct_r, ct_i, ct_l])) dX0_gone_55 ⟨f1, f2⟩) (fun H locs hH hS => ?_)
    replace z := ob z
    obtain ⟨v9, zv9, z⟩ := z
    refine c_aald S hG hH 8 rfl rfl zv9 dX0_gone_58 ?_
    refine lv_iload_n hx hb dX0_gone_59 rfl (lv_at hl 2 rfl) ?_
    replace z := ob z
    obtain ⟨v10, zv10, z⟩ := z
    refine c_iald S hG hH zv10 dX0_gone_60 ?_
    refine lv_if_ne (tgt := 66) hx hb dX0_gone_61 (by decide) (fun c11 => ?_) (fun c11 => ?_)
    rotate_left 1
    · replace z := it c11 z
      refine lv_iload_n hx hb dX0_gone_64 rfl (lv_at hl 3 rfl) ?_
      exact c_iret S hr hlk rfl hH hS z dX0_gone_65
    replace z := ie c11 z
    refine c_aload_n hx hb dX0_gone_66 rfl (lv_at hl 0 rfl) ?_
    replace z := ob z
    obtain ⟨v12, zv12, z⟩ := z
    obtain ⟨fsv12, yv12, zv12⟩ := gR_e zv12
    refine c_get S hG hH (ci := 0) (k := 10) rfl in_X0 (Nat.le_of_ble_eq_true rfl) q490 (fun _ y => y) yv12 zv12 dX0_gone_67 ?_
    replace z := ob z
    obtain ⟨b13, zb13, z⟩ := z
    obtain ⟨yb13, zb13⟩ := rcv_e zb13
    replace z := ob z
    obtain ⟨x14, zx14, z⟩ := z
    refine c_calli hH hS hRM (fun _ _ f1 f2 => va_runV (b := b13) (As := []) (rest := []) S (metX5_passes zx14) (cwV 0 hts (lw_V q1553 q1496 q1497 q178 q1498) rfl rfl rfl (by decide +kernel) ⟨(Nat.le_of_ble_eq_true rfl), (Nat.le_of_ble_eq_true rfl)⟩) (c_preV hG hH hS (ci := 5) rfl zb13) rfl rfl hl.1 (by rw [yb13]; rfl) (lv_room (Nat.le_of_ble_eq_true rfl)) dX0_gone_70 ⟨f1, f2⟩) (fun H locs hH hS => ?_)
    refine lv_pop hx hb dX0_gone_73 rfl ?_
    refine lv_iinc (v := (a3 + (1 : Int32))) (lv' := [(3, .int (a3 + (1 : Int32))), (0, va_rf (some a0)), (1, .int a1), (2, .int a2)]) hx hb dX0_gone_74 hl (k := 3) rfl rfl (by decide) rfl (fun ls hl => ?_)
    refine lv_goto (tgt := 32) hx hb dX0_gone_77 (by decide) ?_
    exact ih x14.1 a1 a2 (a3 + (1 : Int32)) z _ _ hH hS _ (lv_sub hl [1, 2, 3, 0] rfl)
set_option maxHeartbeats 4000000 in
theorem metX0_gone {l : Launch} {A : Nat → Prop} {D : va_G} {ac : Nat → ClassId} {K : KE} {h : HS} {a0 : Nat} {a1 : Int32} {a2 : Int32} {x : HS × Int32} (z : fX0_gone K h a0 a1 a2 = some x) : Met l yX0_gone (ws_ yX0_gone cX0_gone 4 (some .int)) (rmC 168 8438 K h) (cP A D ac K h [va_rf (some a0), .int a1, .int a2]) (cQi A D ac K x) (K.2.2.1 - h.2.1) (K.2.2.2 - h.2.2) A := by
  refine c_entry (plainFor_of_name (by decide)) (Nat.le_of_ble_eq_true rfl) ?_
  intro p e s m below meth c S hr hlk hnm hG hRM hH hS ls hl
  replace hl : lv_has ls 4 [(0, va_rf (some a0)), (1, .int a1), (2, .int a2)] := hl
  replace hnm : meth.name = "gone" := hnm
  replace S : CallFix p m c cX0_gone 4 s _ lw_all RX0 := S
  obtain ⟨hx, hb, hml, hown, hts⟩ := id S
  unfold fX0_gone at z
  refine c_aload_n hx hb dX0_gone_0 rfl (lv_at hl 0 rfl) ?_
  refine lv_iload_n hx hb dX0_gone_1 rfl (lv_at hl 1 rfl) ?_
  replace z := ob z
  obtain ⟨b1, zb1, z⟩ := z
  obtain ⟨yb1, zb1⟩ := rcv_e zb1
  replace z := ob z
  obtain ⟨x2, zx2, z⟩ := z
  refine c_calli hH hS hRM (fun _ _ f1 f2 => va_runV (b := b1) (As := [.int a1]) (rest := []) S (metX0_isPerson zx2) (cwV 1 hts (lw_V q1340 q1342 qs42 q167 q1343) rfl rfl rfl (by decide +kernel) ⟨(Nat.le_of_ble_eq_true rfl), (Nat.le_of_ble_eq_true rfl)⟩) (c_preV hG hH hS (ci := 0) rfl zb1) rfl rfl hl.1 (by rw [yb1]; rfl) (lv_room (Nat.le_of_ble_eq_true rfl)) dX0_gone_2 ⟨f1, f2⟩) (fun H locs hH hS => ?_)
  refine lv_if_eq (tgt := 16) hx hb dX0_gone_5 (by decide) (fun c3 => ?_) (fun c3 => ?_)
  · replace z := it c3 z
    refine lv_iconst (v := (-1 : Int32)) hx hb dX0_gone_16 (by decide) ?_
    exact c_iret S hr hlk rfl hH hS z dX0_gone_17
  replace z := ie c3 z
  refine c_aload_n hx hb dX0_gone_8 rfl (lv_at hl 0 rfl) ?_
  refine lv_iload_n hx hb dX0_gone_9 rfl (lv_at hl 2 rfl) ?_
  replace z := ob z
  obtain ⟨b4, zb4, z⟩ := z
  obtain ⟨yb4, zb4⟩ := rcv_e zb4
  replace z := ob z
  obtain ⟨x5, zx5, z⟩ := z
  refine c_calli hH hS hRM (fun _ _ f1 f2 => va_runV (b := b4) (As := [.int a2]) (rest := []) S (metX0_isKind zx5) (cwV 1 hts (lw_V q1332 q1334 qs41 q167 q1335) rfl rfl rfl (by decide +kernel) ⟨(Nat.le_of_ble_eq_true rfl), (Nat.le_of_ble_eq_true rfl)⟩) (c_preV hG hH hS (ci := 0) rfl zb4) rfl rfl hl.1 (by rw [yb4]; rfl) (lv_room (Nat.le_of_ble_eq_true rfl)) dX0_gone_10 ⟨f1, f2⟩) (fun H locs hH hS => ?_)
  refine lv_if_ne (tgt := 18) hx hb dX0_gone_13 (by decide) (fun c6 => ?_) (fun c6 => ?_)
  rotate_left 1
  · replace z := it c6 z
    refine lv_iconst (v := (-1 : Int32)) hx hb dX0_gone_16 (by decide) ?_
    exact c_iret S hr hlk rfl hH hS z dX0_gone_17
  replace z := ie c6 z
  refine c_aload_n hx hb dX0_gone_18 rfl (lv_at hl 0 rfl) ?_
  replace z := ob z
  obtain ⟨v7, zv7, z⟩ := z
  obtain ⟨fsv7, yv7, zv7⟩ := gR_e zv7
  refine c_get S hG hH (ci := 0) (k := 10) rfl in_X0 (Nat.le_of_ble_eq_true rfl) q490 (fun _ y => y) yv7 zv7 dX0_gone_19 ?_
  refine c_aload_n hx hb dX0_gone_22 rfl (lv_at hl 0 rfl) ?_
  replace z := ob z
  obtain ⟨v8, zv8, z⟩ := z
  obtain ⟨fsv8, yv8, zv8⟩ := gR_e zv8
  refine c_get S hG hH (ci := 0) (k := 9) rfl in_X0 (Nat.le_of_ble_eq_true rfl) q489 (fun _ y => y) yv8 zv8 dX0_gone_23 ?_
  replace z := ob z
  obtain ⟨b9, zb9, z⟩ := z
  obtain ⟨yb9, zb9⟩ := rcv_e zb9
  replace z := ob z
  obtain ⟨x10, zx10, z⟩ := z
  refine c_callq hH hS hRM (fun _ _ f1 f2 => va_runV (b := b9) (As := [va_rf v8]) (rest := []) S (metX5_copy zx10) (cwV 1 hts (lw_V q1487 q1488 q1489 q178 q1490) rfl rfl rfl (by decide +kernel) ⟨(Nat.le_of_ble_eq_true rfl), (Nat.le_of_ble_eq_true rfl)⟩) (c_preV hG hH hS (ci := 5) rfl zb9) rfl rfl hl.1 (by rw [yb9]; rfl) (lv_room (Nat.le_of_ble_eq_true rfl)) dX0_gone_26 ⟨f1, f2⟩) (fun H locs hH hS => ?_)
  refine lv_pop hx hb dX0_gone_29 (ct_r _) ?_
  refine lv_iconst (v := (0 : Int32)) hx hb dX0_gone_30 (by decide) ?_
  refine lv_istore_n (lv' := [(3, .int (0 : Int32)), (0, va_rf (some a0)), (1, .int a1), (2, .int a2)]) hx hb dX0_gone_31 rfl hl (by decide) rfl (fun ls hl => ?_)
  exact wX0_gone_32 S hr hlk hnm hG hRM FU x10.1 a1 a2 (0 : Int32) z _ _ hH hS _ (lv_sub hl [1, 2, 3, 0] rfl)
/-! FourOnOne.sow(II)I -/
def fX0_sow_137 (K : KE) (a0 : Nat) (k31 : HS → Int32 → Int32 → Int32 → Int64 → Int32 → Option (HS × Int32)) (h : HS) (a1 : Int32) (a2 : Int32) (a3 : Int32) (a4 : Int64) (a6 : Int32) : Option (HS × Int32) :=
  k31 h a1 a2 a3 a4 (a6 + (1 : Int32))
def fX0_sow_31 (K : KE) (a0 : Nat) : Nat → HS → Int32 → Int32 → Int32 → Int64 → Int32 → Option (HS × Int32)
  | 0, _, _, _, _, _, _ => none
  | n + 1, h, a1, a2, a3, a4, a6 =>
    (rcv K h (some a0) 0).bind fun b1 =>
    (fX0_films K h b1).bind fun x2 =>
    if x2 ≤ a6 then
      some (h, a3)
    else
    (gR K h (some a0) 0 10).bind fun v4 =>
    (gR K h (some a0) 0 9).bind fun v5 =>
    (rcv K h v4 5).bind fun b6 =>
    (fX5_copy K h b6 v5).bind fun x7 =>
    (gR K x7.1 (some a0) 0 10).bind fun v8 =>
    (gR K x7.1 (some a0) 0 10).bind fun v9 =>
    (rcv K x7.1 v9 5).bind fun b10 =>
    (fX5_profile K x7.1 b10 a1).bind fun x11 =>
    (rcv K x7.1 v8 5).bind fun b12 =>
    (fX5_isOver K x7.1 b12 x11 a6).bind fun x13 =>
    if x13 = 0 then
      (gR K x7.1 (some a0) 0 10).bind fun v15 =>
      (rcv K x7.1 v15 5).bind fun b16 =>
      (fX5_sees K x7.1 b16 a1 a6).bind fun x17 =>
      (gR K x17.1 (some a0) 0 10).bind fun v18 =>
      (gR K x17.1 v18 5 7).bind fun v19 =>
      (sCL x17.1 v19 1 a1 (0 : Int64)).bind fun h20 =>
      (gR K h20 (some a0) 0 10).bind fun v21 =>
      (rcv K h20 v21 5).bind fun b22 =>
      (fX5_hours K h20 b22 a2).bind fun x23 =>
      (gR K x23.1 (some a0) 0 10).bind fun v24 =>
      (gR K x23.1 v24 5 7).bind fun v25 =>
      (cL K x23.1 v25 1 a1).bind fun v26 =>
      if a4 < v26 then
        (gR K x23.1 (some a0) 0 10).bind fun v28 =>
        (gR K x23.1 v28 5 7).bind fun v29 =>
        (cL K x23.1 v29 1 a1).bind fun v30 =>
        fX0_sow_137 K a0 (fun h' b1 b2 b3 b4 b6 => fX0_sow_31 K a0 n h' b1 b2 b3 b4 b6) x23.1 a1 a2 a6 v30 a6
      else
      fX0_sow_137 K a0 (fun h' b1 b2 b3 b4 b6 => fX0_sow_31 K a0 n h' b1 b2 b3 b4 b6) x23.1 a1 a2 a3 a4 a6
    else
    fX0_sow_137 K a0 (fun h' b1 b2 b3 b4 b6 => fX0_sow_31 K a0 n h' b1 b2 b3 b4 b6) x7.1 a1 a2 a3 a4 a6
def fX0_sow (K : KE) (h : HS) (a0 : Nat) (a1 : Int32) (a2 : Int32) : Option (HS × Int32) :=
  (rcv K h (some a0) 0).bind fun b1 =>
  (fX0_isPerson K h b1 a1).bind fun x2 =>
  if x2 = 0 then
    some (h, (-1 : Int32))
  else
  (rcv K h (some a0) 0).bind fun b4 =>
  (fX0_isAhead K h b4 a2 (0 : Int32) (72 : Int32)).bind fun x5 =>
  if x5 = 0 then
    some (h, (-1 : Int32))
  else
  fX0_sow_31 K a0 FU h a1 a2 (-1 : Int32) (-9223372036854775808 : Int64) (0 : Int32)
set_option maxHeartbeats 4000000 in
theorem wX0_sow_137 {p : Program} {l : Launch} {e : Env} {s : State} {m : MethodId} {args : Array Value} {below : List Frame} {meth : Method} {c : Code} {A : Nat → Prop} {D : va_G} {ac : Nat → ClassId} {K : KE} {h0 : HS} {a0 : Nat} (S : CallFix p m c cX0_sow 7 s args lw_all RX0) (hr : meth.sig.returnType = some .int) (hlk : meth.locks = false) (hnm : meth.name = "sow") (hG : GK A D ac K s) (hRM : RM K s (rmC 169 8460 K h0)) {x : HS × Int32} {k31 : HS → Int32 → Int32 → Int32 → Int64 → Int32 → Option (HS × Int32)} (hk31 : ∀ h a1 a2 a3 a4 a6, k31 h a1 a2 a3 a4 a6 = some x → cGo p l e (rmC 169 8460 K h0) s m args below meth c A D ac K (MQ below (cQi A D ac K x) args s (K.2.2.1 - h0.2.1) (K.2.2.2 - h0.2.2) A) 7 31 [(0, va_rf (some a0)), (1, .int a1), (2, .int a2), (3, .int a3), (4, .long a4), (6, .int a6)] [] h) : ∀ (h : HS) (a1 : Int32) (a2 : Int32) (a3 : Int32) (a4 : Int64) (a6 : Int32), fX0_sow_137 K a0 k31 h a1 a2 a3 a4 a6 = some x → cGo p l e (rmC 169 8460 K h0) s m args below meth c A D ac K (MQ below (cQi A D ac K x) args s (K.2.2.1 - h0.2.1) (K.2.2.2 - h0.2.2) A) 7 137 [(0, va_rf (some a0)), (1, .int a1), (2, .int a2), (3, .int a3), (4, .long a4), (6, .int a6)] [] h := by
  obtain ⟨hx, hb, hml, hown, hts⟩ := id S
  intro h a1 a2 a3 a4 a6 z H locs hH hS ls hl
  unfold fX0_sow_137 at z
  refine lv_iinc (v := (a6 + (1 : Int32))) (lv' := [(6, .int (a6 + (1 : Int32))), (0, va_rf (some a0)), (1, .int a1), (2, .int a2), (3, .int a3), (4, .long a4)]) hx hb dX0_sow_137 hl (k := 5) rfl rfl (by decide) rfl (fun ls hl => ?_)
  refine lv_goto (tgt := 31) hx hb dX0_sow_140 (by decide) ?_
  exact hk31 h a1 a2 a3 a4 (a6 + (1 : Int32)) z _ _ hH hS _ (lv_sub hl [1, 2, 3, 4, 5, 0] rfl)
set_option maxHeartbeats 4000000 in
theorem wX0_sow_31 {p : Program} {l : Launch} {e : Env} {s : State} {m : MethodId} {args : Array Value} {below : List Frame} {meth : Method} {c : Code} {A : Nat → Prop} {D : va_G} {ac : Nat → ClassId} {K : KE} {h0 : HS} {a0 : Nat} (S : CallFix p m c cX0_sow 7 s args lw_all RX0) (hr : meth.sig.returnType = some .int) (hlk : meth.locks = false) (hnm : meth.name = "sow") (hG : GK A D ac K s) (hRM : RM K s (rmC 169 8460 K h0)) {x : HS × Int32} : ∀ (n : Nat) (h : HS) (a1 : Int32) (a2 : Int32) (a3 : Int32) (a4 : Int64) (a6 : Int32), fX0_sow_31 K a0 n h a1 a2 a3 a4 a6 = some x → cGo p l e (rmC 169 8460 K h0) s m args below meth c A D ac K (MQ below (cQi A D ac K x) args s (K.2.2.1 - h0.2.1) (K.2.2.2 - h0.2.2) A) 7 31 [(0, va_rf (some a0)), (1, .int a1), (2, .int a2), (3, .int a3), (4, .long a4), (6, .int a6)] [] h := by
  obtain ⟨hx, hb, hml, hown, hts⟩ := id S
  intro n
  induction n with
  | zero => intro h a1 a2 a3 a4 a6 z; cases z
  | succ n ih =>
    intro h a1 a2 a3 a4 a6 z H locs hH hS ls hl
    rw [fX0_sow_31] at z
    refine lv_iload hx hb dX0_sow_31 (lv_at hl 5 rfl) ?_
    refine c_aload_n hx hb dX0_sow_33 rfl (lv_at hl 0 rfl) ?_
    replace z := ob z
    obtain ⟨b1, zb1, z⟩ := z
    obtain ⟨yb1, zb1⟩ := rcv_e zb1
    replace z := ob z
    obtain ⟨x2, zx2, z⟩ := z
    refine c_calli hH hS hRM (fun _ _ f1 f2 => va_runV (b := b1) (As := []) (rest := [.int a6]) S (metX0_films zx2) (cwV 0 hts (lw_V q1274 q1276 qs36 q167 q1277) rfl rfl rfl (by decide +kernel) ⟨(Nat.le_of_ble_eq_true rfl), (Nat.le_of_ble_eq_true rfl)⟩) (c_preV hG hH hS (ci := 0) rfl zb1) rfl rfl hl.1 (by rw [yb1]; rfl) (lv_room (Nat.le_of_ble_eq_true rfl)) dX0_sow_34 ⟨f1, f2⟩) (fun H locs hH hS => ?_)
    refine lv_icmp_ge (tgt := 143) hx hb dX0_sow_37 (by decide) (fun c3 => ?_) (fun c3 => ?_)
    · replace z := it c3 z
      refine lv_iload_n hx hb dX0_sow_143 rfl (lv_at hl 3 rfl) ?_
      exact c_iret S hr hlk rfl hH hS z dX0_sow_144
    replace z := ie c3 z
    refine c_aload_n hx hb dX0_sow_40 rfl (lv_at hl 0 rfl) ?_
    replace z := ob z
    obtain ⟨v4, zv4, z⟩ := z
    obtain ⟨fsv4, yv4, zv4⟩ := gR_e zv4
    refine c_get S hG hH (ci := 0) (k := 10) rfl in_X0 (Nat.le_of_ble_eq_true rfl) q490 (fun _ y => y) yv4 zv4 dX0_sow_41 ?_
    refine c_aload_n hx hb dX0_sow_44 rfl (lv_at hl 0 rfl) ?_
    replace z := ob z
    obtain ⟨v5, zv5, z⟩ := z
    obtain ⟨fsv5, yv5, zv5⟩ := gR_e zv5
    refine c_get S hG hH (ci := 0) (k := 9) rfl in_X0 (Nat.le_of_ble_eq_true rfl) q489 (fun _ y => y) yv5 zv5 dX0_sow_45 ?_
    replace z := ob z
    obtain ⟨b6, zb6, z⟩ := z
    obtain ⟨yb6, zb6⟩ := rcv_e zb6
    replace z := ob z
    obtain ⟨x7, zx7, z⟩ := z
    refine c_callq hH hS hRM (fun _ _ f1 f2 => va_runV (b := b6) (As := [va_rf v5]) (rest := []) S (metX5_copy zx7) (cwV 1 hts (lw_V q1487 q1488 q1489 q178 q1490) rfl rfl rfl (by decide +kernel) ⟨(Nat.le_of_ble_eq_true rfl), (Nat.le_of_ble_eq_true rfl)⟩) (c_preV hG hH hS (ci := 5) rfl zb6) rfl rfl hl.1 (by rw [yb6]; rfl) (lv_room (Nat.le_of_ble_eq_true rfl)) dX0_sow_48 ⟨f1, f2⟩) (fun H locs hH hS => ?_)
    refine lv_pop hx hb dX0_sow_51 (ct_r _) ?_
    refine c_aload_n hx hb dX0_sow_52 rfl (lv_at hl 0 rfl) ?_
    replace z := ob z
    obtain ⟨v8, zv8, z⟩ := z
    obtain ⟨fsv8, yv8, zv8⟩ := gR_e zv8
    refine c_get S hG hH (ci := 0) (k := 10) rfl in_X0 (Nat.le_of_ble_eq_true rfl) q490 (fun _ y => y) yv8 zv8 dX0_sow_53 ?_
    refine c_aload_n hx hb dX0_sow_56 rfl (lv_at hl 0 rfl) ?_
    replace z := ob z
    obtain ⟨v9, zv9, z⟩ := z
    obtain ⟨fsv9, yv9, zv9⟩ := gR_e zv9
    refine c_get S hG hH (ci := 0) (k := 10) rfl in_X0 (Nat.le_of_ble_eq_true rfl) q490 (fun _ y => y) yv9 zv9 dX0_sow_57 ?_
    refine lv_iload_n hx hb dX0_sow_60 rfl (lv_at hl 1 rfl) ?_
    replace z := ob z
    obtain ⟨b10, zb10, z⟩ := z
    obtain ⟨yb10, zb10⟩ := rcv_e zb10
    replace z := ob z
    obtain ⟨x11, zx11, z⟩ := z
    refine c_calli hH hS hRM (fun _ _ f1 f2 => va_runV (b := b10) (As := [.int a1]) (rest := [va_rf v8]) S (metX5_profile zx11) (cwV 1 hts (lw_V q1552 q1367 q1368 q178 q1369) rfl rfl rfl (by decide +kernel) ⟨(Nat.le_of_ble_eq_true rfl), (Nat.le_of_ble_eq_true rfl)⟩) (c_preV hG hH hS (ci := 5) rfl zb10) rfl rfl hl.1 (by rw [yb10]; rfl) (lv_room (by simp [ct_r, ct_i, ct_l])) dX0_sow_61 ⟨f1, f2⟩) (fun H locs hH hS => ?_)
    refine lv_iload hx hb dX0_sow_64 (lv_at hl 5 rfl) ?_
    replace z := ob z
    obtain ⟨b12, zb12, z⟩ := z
    obtain ⟨yb12, zb12⟩ := rcv_e zb12
    replace z := ob z
    obtain ⟨x13, zx13, z⟩ := z
    refine c_calli hH hS hRM (fun _ _ f1 f2 => va_runV (b := b12) (As := [.int x11, .int a6]) (rest := []) S (metX5_isOver zx13) (cwV 2 hts (lw_V q1559 q1377 q1378 q178 q1379) rfl rfl rfl (by decide +kernel) ⟨(Nat.le_of_ble_eq_true rfl), (Nat.le_of_ble_eq_true rfl)⟩) (c_preV hG hH hS (ci := 5) rfl zb12) rfl rfl hl.1 (by rw [yb12]; rfl) (lv_room (Nat.le_of_ble_eq_true rfl)) dX0_sow_66 ⟨f1, f2⟩) (fun H locs hH hS => ?_)
    refine lv_if_eq (tgt := 75) hx hb dX0_sow_69 (by decide) (fun c14 => ?_) (fun c14 => ?_)
    rotate_left 1
    · replace z := ie c14 z
      refine lv_goto (tgt := 137) hx hb dX0_sow_72 (by decide) ?_
      exact wX0_sow_137 S hr hlk hnm hG hRM ih x7.1 a1 a2 a3 a4 a6 z _ _ hH hS _ (lv_sub hl [0, 1, 2, 3, 4, 5] rfl)
    replace z := it c14 z
    refine c_aload_n hx hb dX0_sow_75 rfl (lv_at hl 0 rfl) ?_
    replace z := ob z
    obtain ⟨v15, zv15, z⟩ := z
    obtain ⟨fsv15, yv15, zv15⟩ := gR_e zv15
    refine c_get S hG hH (ci := 0) (k := 10) rfl in_X0 (Nat.le_of_ble_eq_true rfl) q490 (fun _ y => y) yv15 zv15 dX0_sow_76 ?_
    refine lv_iload_n hx hb dX0_sow_79 rfl (lv_at hl 1 rfl) ?_
    refine lv_iload hx hb dX0_sow_80 (lv_at hl 5 rfl) ?_
    replace z := ob z
    obtain ⟨b16, zb16, z⟩ := z
    obtain ⟨yb16, zb16⟩ := rcv_e zb16
    replace z := ob z
    obtain ⟨x17, zx17, z⟩ := z
    refine c_calli hH hS hRM (fun _ _ f1 f2 => va_runV (b := b16) (As := [.int a1, .int a6]) (rest := []) S (metX5_sees zx17) (cwV 2 hts (lw_V q1560 q1506 q1507 q178 q1508) rfl rfl rfl (by decide +kernel) ⟨(Nat.le_of_ble_eq_true rfl), (Nat.le_of_ble_eq_true rfl)⟩) (c_preV hG hH hS (ci := 5) rfl zb16) rfl rfl hl.1 (by rw [yb16]; rfl) (lv_room (Nat.le_of_ble_eq_true rfl)) dX0_sow_82 ⟨f1, f2⟩) (fun H locs hH hS => ?_)
    refine lv_pop hx hb dX0_sow_85 rfl ?_
    refine c_aload_n hx hb dX0_sow_86 rfl (lv_at hl 0 rfl) ?_
    replace z := ob z
    obtain ⟨v18, zv18, z⟩ := z
    obtain ⟨fsv18, yv18, zv18⟩ := gR_e zv18
    refine c_get S hG hH (ci := 0) (k := 10) rfl in_X0 (Nat.le_of_ble_eq_true rfl) q490 (fun _ y => y) yv18 zv18 dX0_sow_87 ?_
    replace z := ob z
    obtain ⟨v19, zv19, z⟩ := z
    obtain ⟨fsv19, yv19, zv19⟩ := gR_e zv19
    refine c_getN S hG hH (ci := 5) (k := 7) rfl in_X5 (Nat.le_of_ble_eq_true rfl) q444 (fun _ y => y) yv19 zv19 dX0_sow_90 ?_
    refine lv_iload_n hx hb dX0_sow_93 rfl (lv_at hl 1 rfl) ?_
    refine lv_lconst (v := (0 : Int64)) hx hb dX0_sow_94 (by decide) ?_
    replace z := ob z
    obtain ⟨h20, zh20, z⟩ := z
    refine c_last S hG hH hS zh20 dX0_sow_95 (fun H locs hH hS => ?_)
    refine c_aload_n hx hb dX0_sow_96 rfl (lv_at hl 0 rfl) ?_
    replace z := ob z
    obtain ⟨v21, zv21, z⟩ := z
    obtain ⟨fsv21, yv21, zv21⟩ := gR_e zv21
    refine c_get S hG hH (ci := 0) (k := 10) rfl in_X0 (Nat.le_of_ble_eq_true rfl) q490 (fun _ y => y) yv21 zv21 dX0_sow_97 ?_
    refine lv_iload_n hx hb dX0_sow_100 rfl (lv_at hl 2 rfl) ?_
    replace z := ob z
    obtain ⟨b22, zb22, z⟩ := z
    obtain ⟨yb22, zb22⟩ := rcv_e zb22
    replace z := ob z
    obtain ⟨x23, zx23, z⟩ := z
    refine c_callq hH hS hRM (fun _ _ f1 f2 => va_runV (b := b22) (As := [.int a2]) (rest := []) S (metX5_hours zx23) (cwV 1 hts (lw_V q1491 q1492 q1493 q178 q1494) rfl rfl rfl (by decide +kernel) ⟨(Nat.le_of_ble_eq_true rfl), (Nat.le_of_ble_eq_true rfl)⟩) (c_preV hG hH hS (ci := 5) rfl zb22) rfl rfl hl.1 (by rw [yb22]; rfl) (lv_room (Nat.le_of_ble_eq_true rfl)) dX0_sow_101 ⟨f1, f2⟩) (fun H locs hH hS => ?_)
    refine lv_pop hx hb dX0_sow_104 (ct_r _) ?_
    refine c_aload_n hx hb dX0_sow_105 rfl (lv_at hl 0 rfl) ?_
    replace z := ob z
    obtain ⟨v24, zv24, z⟩ := z
    obtain ⟨fsv24, yv24, zv24⟩ := gR_e zv24
    refine c_get S hG hH (ci := 0) (k := 10) rfl in_X0 (Nat.le_of_ble_eq_true rfl) q490 (fun _ y => y) yv24 zv24 dX0_sow_106 ?_
    replace z := ob z
    obtain ⟨v25, zv25, z⟩ := z
    obtain ⟨fsv25, yv25, zv25⟩ := gR_e zv25
    refine c_getN S hG hH (ci := 5) (k := 7) rfl in_X5 (Nat.le_of_ble_eq_true rfl) q444 (fun _ y => y) yv25 zv25 dX0_sow_109 ?_
    refine lv_iload_n hx hb dX0_sow_112 rfl (lv_at hl 1 rfl) ?_
    replace z := ob z
    obtain ⟨v26, zv26, z⟩ := z
    refine c_lald S hG hH zv26 dX0_sow_113 ?_
    refine lv_lload hx hb dX0_sow_114 (lv_at hl 4 rfl) ?_
    refine W.lcmp hx hb dX0_sow_116 ?_
    refine lv_if_gt (tgt := 123) hx hb dX0_sow_117 (by decide) (fun c27 => ?_) (fun c27 => ?_)
    rotate_left 1
    · replace z := ie (fun q => c27 ((lg_cmp_gt _ _).mpr q)) z
      refine lv_goto (tgt := 137) hx hb dX0_sow_120 (by decide) ?_
      exact wX0_sow_137 S hr hlk hnm hG hRM ih x23.1 a1 a2 a3 a4 a6 z _ _ hH hS _ (lv_sub hl [0, 1, 2, 3, 4, 5] rfl)
    replace z := it ((lg_cmp_gt _ _).mp c27) z
    refine c_aload_n hx hb dX0_sow_123 rfl (lv_at hl 0 rfl) ?_
    replace z := ob z
    obtain ⟨v28, zv28, z⟩ := z
    obtain ⟨fsv28, yv28, zv28⟩ := gR_e zv28
    refine c_get S hG hH (ci := 0) (k := 10) rfl in_X0 (Nat.le_of_ble_eq_true rfl) q490 (fun _ y => y) yv28 zv28 dX0_sow_124 ?_
    replace z := ob z
    obtain ⟨v29, zv29, z⟩ := z
    obtain ⟨fsv29, yv29, zv29⟩ := gR_e zv29
    refine c_getN S hG hH (ci := 5) (k := 7) rfl in_X5 (Nat.le_of_ble_eq_true rfl) q444 (fun _ y => y) yv29 zv29 dX0_sow_127 ?_
    refine lv_iload_n hx hb dX0_sow_130 rfl (lv_at hl 1 rfl) ?_
    replace z := ob z
    obtain ⟨v30, zv30, z⟩ := z
    refine c_lald S hG hH zv30 dX0_sow_131 ?_
    refine lv_lstore (lv' := [(4, .long v30), (0, va_rf (some a0)), (1, .int a1), (2, .int a2), (3, .int a3), (6, .int a6)]) hx hb dX0_sow_132 hl (by decide) rfl (fun ls hl => ?_)
    refine lv_iload hx hb dX0_sow_134 (lv_at hl 5 rfl) ?_
    refine lv_istore_n (lv' := [(3, .int a6), (4, .long v30), (0, va_rf (some a0)), (1, .int a1), (2, .int a2), (6, .int a6)]) hx hb dX0_sow_136 rfl hl (by decide) rfl (fun ls hl => ?_)
    exact wX0_sow_137 S hr hlk hnm hG hRM ih x23.1 a1 a2 a6 v30 a6 z _ _ hH hS _ (lv_sub hl [2, 3, 4, 0, 1, 5] rfl)
set_option maxHeartbeats 4000000 in
theorem metX0_sow {l : Launch} {A : Nat → Prop} {D : va_G} {ac : Nat → ClassId} {K : KE} {h : HS} {a0 : Nat} {a1 : Int32} {a2 : Int32} {x : HS × Int32} (z : fX0_sow K h a0 a1 a2 = some x) : Met l yX0_sow (ws_ yX0_sow cX0_sow 7 (some .int)) (rmC 169 8460 K h) (cP A D ac K h [va_rf (some a0), .int a1, .int a2]) (cQi A D ac K x) (K.2.2.1 - h.2.1) (K.2.2.2 - h.2.2) A := by
  refine c_entry (plainFor_of_name (by decide)) (Nat.le_of_ble_eq_true rfl) ?_
  intro p e s m below meth c S hr hlk hnm hG hRM hH hS ls hl
  replace hl : lv_has ls 7 [(0, va_rf (some a0)), (1, .int a1), (2, .int a2)] := hl
  replace hnm : meth.name = "sow" := hnm
  replace S : CallFix p m c cX0_sow 7 s _ lw_all RX0 := S
  obtain ⟨hx, hb, hml, hown, hts⟩ := id S
  unfold fX0_sow at z
  refine c_aload_n hx hb dX0_sow_0 rfl (lv_at hl 0 rfl) ?_
  refine lv_iload_n hx hb dX0_sow_1 rfl (lv_at hl 1 rfl) ?_
  replace z := ob z
  obtain ⟨b1, zb1, z⟩ := z
  obtain ⟨yb1, zb1⟩ := rcv_e zb1
  replace z := ob z
  obtain ⟨x2, zx2, z⟩ := z
  refine c_calli hH hS hRM (fun _ _ f1 f2 => va_runV (b := b1) (As := [.int a1]) (rest := []) S (metX0_isPerson zx2) (cwV 1 hts (lw_V q1340 q1342 qs42 q167 q1343) rfl rfl rfl (by decide +kernel) ⟨(Nat.le_of_ble_eq_true rfl), (Nat.le_of_ble_eq_true rfl)⟩) (c_preV hG hH hS (ci := 0) rfl zb1) rfl rfl hl.1 (by rw [yb1]; rfl) (lv_room (Nat.le_of_ble_eq_true rfl)) dX0_sow_2 ⟨f1, f2⟩) (fun H locs hH hS => ?_)
  refine lv_if_eq (tgt := 19) hx hb dX0_sow_5 (by decide) (fun c3 => ?_) (fun c3 => ?_)
  · replace z := it c3 z
    refine lv_iconst (v := (-1 : Int32)) hx hb dX0_sow_19 (by decide) ?_
    exact c_iret S hr hlk rfl hH hS z dX0_sow_20
  replace z := ie c3 z
  refine c_aload_n hx hb dX0_sow_8 rfl (lv_at hl 0 rfl) ?_
  refine lv_iload_n hx hb dX0_sow_9 rfl (lv_at hl 2 rfl) ?_
  refine lv_iconst (v := (0 : Int32)) hx hb dX0_sow_10 (by decide) ?_
  refine lv_bipush (v := (72 : Int32)) hx hb dX0_sow_11 (by decide) ?_
  replace z := ob z
  obtain ⟨b4, zb4, z⟩ := z
  obtain ⟨yb4, zb4⟩ := rcv_e zb4
  replace z := ob z
  obtain ⟨x5, zx5, z⟩ := z
  refine c_calli hH hS hRM (fun _ _ f1 f2 => va_runV (b := b4) (As := [.int a2, .int (0 : Int32), .int (72 : Int32)]) (rest := []) S (metX0_isAhead zx5) (cwV 3 hts (lw_V q1483 q1485 qs47 q167 q1486) rfl rfl rfl (by decide +kernel) ⟨(Nat.le_of_ble_eq_true rfl), (Nat.le_of_ble_eq_true rfl)⟩) (c_preV hG hH hS (ci := 0) rfl zb4) rfl rfl hl.1 (by rw [yb4]; rfl) (lv_room (Nat.le_of_ble_eq_true rfl)) dX0_sow_13 ⟨f1, f2⟩) (fun H locs hH hS => ?_)
  refine lv_if_ne (tgt := 21) hx hb dX0_sow_16 (by decide) (fun c6 => ?_) (fun c6 => ?_)
  rotate_left 1
  · replace z := it c6 z
    refine lv_iconst (v := (-1 : Int32)) hx hb dX0_sow_19 (by decide) ?_
    exact c_iret S hr hlk rfl hH hS z dX0_sow_20
  replace z := ie c6 z
  refine lv_iconst (v := (-1 : Int32)) hx hb dX0_sow_21 (by decide) ?_
  refine lv_istore_n (lv' := [(3, .int (-1 : Int32)), (0, va_rf (some a0)), (1, .int a1), (2, .int a2)]) hx hb dX0_sow_22 rfl hl (by decide) rfl (fun ls hl => ?_)
  refine lv_ldc2 hx hb hown (hts _ q1558) dX0_sow_23 ?_
  refine lv_lstore (lv' := [(4, .long (-9223372036854775808 : Int64)), (3, .int (-1 : Int32)), (0, va_rf (some a0)), (1, .int a1), (2, .int a2)]) hx hb dX0_sow_26 hl (by decide) rfl (fun ls hl => ?_)
  refine lv_iconst (v := (0 : Int32)) hx hb dX0_sow_28 (by decide) ?_
  refine lv_istore (lv' := [(6, .int (0 : Int32)), (4, .long (-9223372036854775808 : Int64)), (3, .int (-1 : Int32)), (0, va_rf (some a0)), (1, .int a1), (2, .int a2)]) hx hb dX0_sow_29 hl (by decide) rfl (fun ls hl => ?_)
  exact wX0_sow_31 S hr hlk hnm hG hRM FU h a1 a2 (-1 : Int32) (-9223372036854775808 : Int64) (0 : Int32) z _ _ hH hS _ (lv_sub hl [3, 4, 5, 2, 1, 0] rfl)
/-! FourOnOne.isAsTold(I)Z -/
def fX0_isAsTold_87 (K : KE) (a0 : Nat) (k22 : HS → Int32 → Int32 → Option (HS × Int32)) (k38 : HS → Int32 → Int32 → Int32 → Option (HS × Int32)) (h : HS) (a2 : Int32) (a3 : Int32) (a4 : Int32) : Option (HS × Int32) :=
  k38 h a2 a3 (a4 + (1 : Int32))
def fX0_isAsTold_38 (K : KE) (a0 : Nat) (k22 : HS → Int32 → Int32 → Option (HS × Int32)) : Nat → HS → Int32 → Int32 → Int32 → Option (HS × Int32)
  | 0, _, _, _, _ => none
  | n + 1, h, a2, a3, a4 =>
    (gI K h (some a0) 0 15).bind fun v1 =>
    if v1 ≤ a4 then
      k22 h a2 (a3 + (1 : Int32))
    else
    (gR K h (some a0) 0 12).bind fun v3 =>
    (cI K h v3 0 a4).bind fun v4 =>
    if v4 = a3 then
      (gR K h (some a0) 0 10).bind fun v6 =>
      (gI K h v6 5 9).bind fun v7 =>
      (gR K h (some a0) 0 13).bind fun v8 =>
      (cI K h v8 0 a4).bind fun v9 =>
      (fX0_has K h v7 v9).bind fun x10 =>
      (gR K h (some a0) 0 14).bind fun v11 =>
      (cI K h v11 4 a4).bind fun v12 =>
      if x10 = v12 then
        fX0_isAsTold_87 K a0 k22 (fun h' b2 b3 b4 => fX0_isAsTold_38 K a0 k22 n h' b2 b3 b4) h a2 a3 a4
      else
      some (h, (0 : Int32))
    else
    fX0_isAsTold_87 K a0 k22 (fun h' b2 b3 b4 => fX0_isAsTold_38 K a0 k22 n h' b2 b3 b4) h a2 a3 a4
def fX0_isAsTold_22 (K : KE) (a0 : Nat) : Nat → HS → Int32 → Int32 → Option (HS × Int32)
  | 0, _, _, _ => none
  | n + 1, h, a2, a3 =>
    if a2 < a3 then
      some (h, (1 : Int32))
    else
    (gR K h (some a0) 0 10).bind fun v2 =>
    (rcv K h v2 5).bind fun b3 =>
    (fX5_passes K h b3).bind fun x4 =>
    fX0_isAsTold_38 K a0 (fun h' b2 b3 => fX0_isAsTold_22 K a0 n h' b2 b3) FU x4.1 a2 a3 (0 : Int32)
def fX0_isAsTold (K : KE) (h : HS) (a0 : Nat) (a1 : Int32) : Option (HS × Int32) :=
  (gR K h (some a0) 0 10).bind fun v1 =>
  (gR K h (some a0) 0 9).bind fun v2 =>
  (rcv K h v1 5).bind fun b3 =>
  (fX5_copy K h b3 v2).bind fun x4 =>
  (pV x4.1 x4.2 5 1 (.int a1)).bind fun h5 =>
  (rcv K h5 (some a0) 0).bind fun b6 =>
  (fX0_lastHour K h5 b6).bind fun x7 =>
  fX0_isAsTold_22 K a0 FU h5 x7 (0 : Int32)
set_option maxHeartbeats 4000000 in
theorem wX0_isAsTold_87 {p : Program} {l : Launch} {e : Env} {s : State} {m : MethodId} {args : Array Value} {below : List Frame} {meth : Method} {c : Code} {A : Nat → Prop} {D : va_G} {ac : Nat → ClassId} {K : KE} {h0 : HS} {a0 : Nat} (S : CallFix p m c cX0_isAsTold 5 s args lw_all RX0) (hr : meth.sig.returnType = some .boolean) (hlk : meth.locks = false) (hnm : meth.name = "isAsTold") (hG : GK A D ac K s) (hRM : RM K s (rmC 168 8438 K h0)) {x : HS × Int32} {k22 : HS → Int32 → Int32 → Option (HS × Int32)} (hk22 : ∀ h a2 a3, k22 h a2 a3 = some x → cGo p l e (rmC 168 8438 K h0) s m args below meth c A D ac K (MQ below (cQi A D ac K x) args s (K.2.2.1 - h0.2.1) (K.2.2.2 - h0.2.2) A) 5 22 [(0, va_rf (some a0)), (2, .int a2), (3, .int a3)] [] h) {k38 : HS → Int32 → Int32 → Int32 → Option (HS × Int32)} (hk38 : ∀ h a2 a3 a4, k38 h a2 a3 a4 = some x → cGo p l e (rmC 168 8438 K h0) s m args below meth c A D ac K (MQ below (cQi A D ac K x) args s (K.2.2.1 - h0.2.1) (K.2.2.2 - h0.2.2) A) 5 38 [(0, va_rf (some a0)), (2, .int a2), (3, .int a3), (4, .int a4)] [] h) : ∀ (h : HS) (a2 : Int32) (a3 : Int32) (a4 : Int32), fX0_isAsTold_87 K a0 k22 k38 h a2 a3 a4 = some x → cGo p l e (rmC 168 8438 K h0) s m args below meth c A D ac K (MQ below (cQi A D ac K x) args s (K.2.2.1 - h0.2.1) (K.2.2.2 - h0.2.2) A) 5 87 [(0, va_rf (some a0)), (2, .int a2), (3, .int a3), (4, .int a4)] [] h := by
  obtain ⟨hx, hb, hml, hown, hts⟩ := id S
  intro h a2 a3 a4 z H locs hH hS ls hl
  unfold fX0_isAsTold_87 at z
  refine lv_iinc (v := (a4 + (1 : Int32))) (lv' := [(4, .int (a4 + (1 : Int32))), (0, va_rf (some a0)), (2, .int a2), (3, .int a3)]) hx hb dX0_isAsTold_87 hl (k := 3) rfl rfl (by decide) rfl (fun ls hl => ?_)
  refine lv_goto (tgt := 38) hx hb dX0_isAsTold_90 (by decide) ?_
  exact hk38 h a2 a3 (a4 + (1 : Int32)) z _ _ hH hS _ (lv_sub hl [1, 2, 3, 0] rfl)
set_option maxHeartbeats 4000000 in
theorem wX0_isAsTold_38 {p : Program} {l : Launch} {e : Env} {s : State} {m : MethodId} {args : Array Value} {below : List Frame} {meth : Method} {c : Code} {A : Nat → Prop} {D : va_G} {ac : Nat → ClassId} {K : KE} {h0 : HS} {a0 : Nat} (S : CallFix p m c cX0_isAsTold 5 s args lw_all RX0) (hr : meth.sig.returnType = some .boolean) (hlk : meth.locks = false) (hnm : meth.name = "isAsTold") (hG : GK A D ac K s) (hRM : RM K s (rmC 168 8438 K h0)) {x : HS × Int32} {k22 : HS → Int32 → Int32 → Option (HS × Int32)} (hk22 : ∀ h a2 a3, k22 h a2 a3 = some x → cGo p l e (rmC 168 8438 K h0) s m args below meth c A D ac K (MQ below (cQi A D ac K x) args s (K.2.2.1 - h0.2.1) (K.2.2.2 - h0.2.2) A) 5 22 [(0, va_rf (some a0)), (2, .int a2), (3, .int a3)] [] h) : ∀ (n : Nat) (h : HS) (a2 : Int32) (a3 : Int32) (a4 : Int32), fX0_isAsTold_38 K a0 k22 n h a2 a3 a4 = some x → cGo p l e (rmC 168 8438 K h0) s m args below meth c A D ac K (MQ below (cQi A D ac K x) args s (K.2.2.1 - h0.2.1) (K.2.2.2 - h0.2.2) A) 5 38 [(0, va_rf (some a0)), (2, .int a2), (3, .int a3), (4, .int a4)] [] h := by
  obtain ⟨hx, hb, hml, hown, hts⟩ := id S
  intro n
  induction n with
  | zero => intro h a2 a3 a4 z; cases z
  | succ n ih =>
    intro h a2 a3 a4 z H locs hH hS ls hl
    rw [fX0_isAsTold_38] at z
    refine lv_iload hx hb dX0_isAsTold_38 (lv_at hl 3 rfl) ?_
    refine c_aload_n hx hb dX0_isAsTold_40 rfl (lv_at hl 0 rfl) ?_
    replace z := ob z
    obtain ⟨v1, zv1, z⟩ := z
    obtain ⟨fsv1, yv1, zv1⟩ := gI_e zv1
    refine c_get S hG hH (ci := 0) (k := 15) rfl in_X0 (Nat.le_of_ble_eq_true rfl) q495 (fun _ y => y) yv1 zv1 dX0_isAsTold_41 ?_
    refine lv_icmp_ge (tgt := 93) hx hb dX0_isAsTold_44 (by decide) (fun c2 => ?_) (fun c2 => ?_)
    · replace z := it c2 z
      refine lv_iinc (v := (a3 + (1 : Int32))) (lv' := [(3, .int (a3 + (1 : Int32))), (0, va_rf (some a0)), (2, .int a2), (4, .int a4)]) hx hb dX0_isAsTold_93 hl (k := 2) rfl rfl (by decide) rfl (fun ls hl => ?_)
      refine lv_goto (tgt := 22) hx hb dX0_isAsTold_96 (by decide) ?_
      exact hk22 h a2 (a3 + (1 : Int32)) z _ _ hH hS _ (lv_sub hl [1, 2, 0] rfl)
    replace z := ie c2 z
    refine c_aload_n hx hb dX0_isAsTold_47 rfl (lv_at hl 0 rfl) ?_
    replace z := ob z
    obtain ⟨v3, zv3, z⟩ := z
    obtain ⟨fsv3, yv3, zv3⟩ := gR_e zv3
    refine c_get S hG hH (ci := 0) (k := 12) rfl in_X0 (Nat.le_of_ble_eq_true rfl) q492 (fun _ y => y) yv3 zv3 dX0_isAsTold_48 ?_
    refine lv_iload hx hb dX0_isAsTold_51 (lv_at hl 3 rfl) ?_
    replace z := ob z
    obtain ⟨v4, zv4, z⟩ := z
    refine c_iald S hG hH zv4 dX0_isAsTold_53 ?_
    refine lv_iload_n hx hb dX0_isAsTold_54 rfl (lv_at hl 2 rfl) ?_
    refine lv_icmp_ne (tgt := 87) hx hb dX0_isAsTold_55 (by decide) (fun c5 => ?_) (fun c5 => ?_)
    · replace z := ie c5 z
      exact wX0_isAsTold_87 S hr hlk hnm hG hRM hk22 ih h a2 a3 a4 z _ _ hH hS _ (lv_sub hl [0, 1, 2, 3] rfl)
    replace z := it c5 z
    refine c_aload_n hx hb dX0_isAsTold_58 rfl (lv_at hl 0 rfl) ?_
    replace z := ob z
    obtain ⟨v6, zv6, z⟩ := z
    obtain ⟨fsv6, yv6, zv6⟩ := gR_e zv6
    refine c_get S hG hH (ci := 0) (k := 10) rfl in_X0 (Nat.le_of_ble_eq_true rfl) q490 (fun _ y => y) yv6 zv6 dX0_isAsTold_59 ?_
    replace z := ob z
    obtain ⟨v7, zv7, z⟩ := z
    obtain ⟨fsv7, yv7, zv7⟩ := gI_e zv7
    refine c_getN S hG hH (ci := 5) (k := 9) rfl in_X5 (Nat.le_of_ble_eq_true rfl) q448 (fun _ y => y) yv7 zv7 dX0_isAsTold_62 ?_
    refine c_aload_n hx hb dX0_isAsTold_65 rfl (lv_at hl 0 rfl) ?_
    replace z := ob z
    obtain ⟨v8, zv8, z⟩ := z
    obtain ⟨fsv8, yv8, zv8⟩ := gR_e zv8
    refine c_get S hG hH (ci := 0) (k := 13) rfl in_X0 (Nat.le_of_ble_eq_true rfl) q493 (fun _ y => y) yv8 zv8 dX0_isAsTold_66 ?_
    refine lv_iload hx hb dX0_isAsTold_69 (lv_at hl 3 rfl) ?_
    replace z := ob z
    obtain ⟨v9, zv9, z⟩ := z
    refine c_iald S hG hH zv9 dX0_isAsTold_71 ?_
    replace z := ob z
    obtain ⟨x10, zx10, z⟩ := z
    refine c_calli hH hS hRM (fun _ _ f1 f2 => va_runS (As := [.int v7, .int v9]) (rest := []) S (metX0_has zx10) (va_cwS 2 hts (lw_S q1349 q975 q167 q976) rfl rfl rfl (by decide +kernel) ⟨(Nat.le_of_ble_eq_true rfl), (Nat.le_of_ble_eq_true rfl)⟩) (c_pre hG hH hS) rfl rfl hl.1 rfl (lv_room (Nat.le_of_ble_eq_true rfl)) dX0_isAsTold_72 ⟨f1, f2⟩) (fun H locs hH hS => ?_)
    refine c_aload_n hx hb dX0_isAsTold_75 rfl (lv_at hl 0 rfl) ?_
    replace z := ob z
    obtain ⟨v11, zv11, z⟩ := z
    obtain ⟨fsv11, yv11, zv11⟩ := gR_e zv11
    refine c_get S hG hH (ci := 0) (k := 14) rfl in_X0 (Nat.le_of_ble_eq_true rfl) q494 (fun _ y => y) yv11 zv11 dX0_isAsTold_76 ?_
    refine lv_iload hx hb dX0_isAsTold_79 (lv_at hl 3 rfl) ?_
    replace z := ob z
    obtain ⟨v12, zv12, z⟩ := z
    refine c_zald S hG hH zv12 dX0_isAsTold_81 ?_
    refine lv_icmp_eq (tgt := 87) hx hb dX0_isAsTold_82 (by decide) (fun c13 => ?_) (fun c13 => ?_)
    · replace z := it c13 z
      exact wX0_isAsTold_87 S hr hlk hnm hG hRM hk22 ih h a2 a3 a4 z _ _ hH hS _ (lv_sub hl [0, 1, 2, 3] rfl)
    replace z := ie c13 z
    refine lv_iconst (v := (0 : Int32)) hx hb dX0_isAsTold_85 (by decide) ?_
    exact c_iret S hr hlk rfl hH hS z dX0_isAsTold_86
set_option maxHeartbeats 4000000 in
theorem wX0_isAsTold_22 {p : Program} {l : Launch} {e : Env} {s : State} {m : MethodId} {args : Array Value} {below : List Frame} {meth : Method} {c : Code} {A : Nat → Prop} {D : va_G} {ac : Nat → ClassId} {K : KE} {h0 : HS} {a0 : Nat} (S : CallFix p m c cX0_isAsTold 5 s args lw_all RX0) (hr : meth.sig.returnType = some .boolean) (hlk : meth.locks = false) (hnm : meth.name = "isAsTold") (hG : GK A D ac K s) (hRM : RM K s (rmC 168 8438 K h0)) {x : HS × Int32} : ∀ (n : Nat) (h : HS) (a2 : Int32) (a3 : Int32), fX0_isAsTold_22 K a0 n h a2 a3 = some x → cGo p l e (rmC 168 8438 K h0) s m args below meth c A D ac K (MQ below (cQi A D ac K x) args s (K.2.2.1 - h0.2.1) (K.2.2.2 - h0.2.2) A) 5 22 [(0, va_rf (some a0)), (2, .int a2), (3, .int a3)] [] h := by
  obtain ⟨hx, hb, hml, hown, hts⟩ := id S
  intro n
  induction n with
  | zero => intro h a2 a3 z; cases z
  | succ n ih =>
    intro h a2 a3 z H locs hH hS ls hl
    rw [fX0_isAsTold_22] at z
    refine lv_iload_n hx hb dX0_isAsTold_22 rfl (lv_at hl 2 rfl) ?_
    refine lv_iload_n hx hb dX0_isAsTold_23 rfl (lv_at hl 1 rfl) ?_
    refine lv_icmp_gt (tgt := 99) hx hb dX0_isAsTold_24 (by decide) (fun c1 => ?_) (fun c1 => ?_)
    · replace z := it c1 z
      refine lv_iconst (v := (1 : Int32)) hx hb dX0_isAsTold_99 (by decide) ?_
      exact c_iret S hr hlk rfl hH hS z dX0_isAsTold_100
    replace z := ie c1 z
    refine c_aload_n hx hb dX0_isAsTold_27 rfl (lv_at hl 0 rfl) ?_
    replace z := ob z
    obtain ⟨v2, zv2, z⟩ := z
    obtain ⟨fsv2, yv2, zv2⟩ := gR_e zv2
    refine c_get S hG hH (ci := 0) (k := 10) rfl in_X0 (Nat.le_of_ble_eq_true rfl) q490 (fun _ y => y) yv2 zv2 dX0_isAsTold_28 ?_
    replace z := ob z
    obtain ⟨b3, zb3, z⟩ := z
    obtain ⟨yb3, zb3⟩ := rcv_e zb3
    replace z := ob z
    obtain ⟨x4, zx4, z⟩ := z
    refine c_calli hH hS hRM (fun _ _ f1 f2 => va_runV (b := b3) (As := []) (rest := []) S (metX5_passes zx4) (cwV 0 hts (lw_V q1553 q1496 q1497 q178 q1498) rfl rfl rfl (by decide +kernel) ⟨(Nat.le_of_ble_eq_true rfl), (Nat.le_of_ble_eq_true rfl)⟩) (c_preV hG hH hS (ci := 5) rfl zb3) rfl rfl hl.1 (by rw [yb3]; rfl) (lv_room (Nat.le_of_ble_eq_true rfl)) dX0_isAsTold_31 ⟨f1, f2⟩) (fun H locs hH hS => ?_)
    refine lv_pop hx hb dX0_isAsTold_34 rfl ?_
    refine lv_iconst (v := (0 : Int32)) hx hb dX0_isAsTold_35 (by decide) ?_
    refine lv_istore (lv' := [(4, .int (0 : Int32)), (0, va_rf (some a0)), (2, .int a2), (3, .int a3)]) hx hb dX0_isAsTold_36 hl (by decide) rfl (fun ls hl => ?_)
    exact wX0_isAsTold_38 S hr hlk hnm hG hRM ih FU x4.1 a2 a3 (0 : Int32) z _ _ hH hS _ (lv_sub hl [1, 2, 3, 0] rfl)
set_option maxHeartbeats 4000000 in
theorem metX0_isAsTold {l : Launch} {A : Nat → Prop} {D : va_G} {ac : Nat → ClassId} {K : KE} {h : HS} {a0 : Nat} {a1 : Int32} {x : HS × Int32} (z : fX0_isAsTold K h a0 a1 = some x) : Met l yX0_isAsTold (ws_ yX0_isAsTold cX0_isAsTold 5 (some .boolean)) (rmC 168 8438 K h) (cP A D ac K h [va_rf (some a0), .int a1]) (cQi A D ac K x) (K.2.2.1 - h.2.1) (K.2.2.2 - h.2.2) A := by
  refine c_entry (plainFor_of_name (by decide)) (Nat.le_of_ble_eq_true rfl) ?_
  intro p e s m below meth c S hr hlk hnm hG hRM hH hS ls hl
  replace hl : lv_has ls 5 [(0, va_rf (some a0)), (1, .int a1)] := hl
  replace hnm : meth.name = "isAsTold" := hnm
  replace S : CallFix p m c cX0_isAsTold 5 s _ lw_all RX0 := S
  obtain ⟨hx, hb, hml, hown, hts⟩ := id S
  unfold fX0_isAsTold at z
  refine c_aload_n hx hb dX0_isAsTold_0 rfl (lv_at hl 0 rfl) ?_
  replace z := ob z
  obtain ⟨v1, zv1, z⟩ := z
  obtain ⟨fsv1, yv1, zv1⟩ := gR_e zv1
  refine c_get S hG hH (ci := 0) (k := 10) rfl in_X0 (Nat.le_of_ble_eq_true rfl) q490 (fun _ y => y) yv1 zv1 dX0_isAsTold_1 ?_
  refine c_aload_n hx hb dX0_isAsTold_4 rfl (lv_at hl 0 rfl) ?_
  replace z := ob z
  obtain ⟨v2, zv2, z⟩ := z
  obtain ⟨fsv2, yv2, zv2⟩ := gR_e zv2
  refine c_get S hG hH (ci := 0) (k := 9) rfl in_X0 (Nat.le_of_ble_eq_true rfl) q489 (fun _ y => y) yv2 zv2 dX0_isAsTold_5 ?_
  replace z := ob z
  obtain ⟨b3, zb3, z⟩ := z
  obtain ⟨yb3, zb3⟩ := rcv_e zb3
  replace z := ob z
  obtain ⟨x4, zx4, z⟩ := z
  refine c_callq hH hS hRM (fun _ _ f1 f2 => va_runV (b := b3) (As := [va_rf v2]) (rest := []) S (metX5_copy zx4) (cwV 1 hts (lw_V q1487 q1488 q1489 q178 q1490) rfl rfl rfl (by decide +kernel) ⟨(Nat.le_of_ble_eq_true rfl), (Nat.le_of_ble_eq_true rfl)⟩) (c_preV hG hH hS (ci := 5) rfl zb3) rfl rfl hl.1 (by rw [yb3]; rfl) (lv_room (Nat.le_of_ble_eq_true rfl)) dX0_isAsTold_8 ⟨f1, f2⟩) (fun H locs hH hS => ?_)
  refine lv_iload_n hx hb dX0_isAsTold_11 rfl (lv_at hl 1 rfl) ?_
  replace z := ob z
  obtain ⟨h5, zh5, z⟩ := z
  refine c_putN S hG hH hS (ci := 5) (k := 1) rfl in_X5 tyX5 tyX5_ok nmX5 (Nat.le_of_ble_eq_true rfl) q432 (fun _ y => y) rfl (ty := .int) rfl rfl rfl zh5 dX0_isAsTold_12 (fun H locs hH hS => ?_)
  refine c_aload_n hx hb dX0_isAsTold_15 rfl (lv_at hl 0 rfl) ?_
  replace z := ob z
  obtain ⟨b6, zb6, z⟩ := z
  obtain ⟨yb6, zb6⟩ := rcv_e zb6
  replace z := ob z
  obtain ⟨x7, zx7, z⟩ := z
  refine c_calli hH hS hRM (fun _ _ f1 f2 => va_runV (b := b6) (As := []) (rest := []) S (metX0_lastHour zx7) (cwV 0 hts (lw_V q1596 q1598 qs57 q167 q1599) rfl rfl rfl (by decide +kernel) ⟨(Nat.le_of_ble_eq_true rfl), (Nat.le_of_ble_eq_true rfl)⟩) (c_preV hG hH hS (ci := 0) rfl zb6) rfl rfl hl.1 (by rw [yb6]; rfl) (lv_room (Nat.le_of_ble_eq_true rfl)) dX0_isAsTold_16 ⟨f1, f2⟩) (fun H locs hH hS => ?_)
  refine lv_istore_n (lv' := [(2, .int x7), (0, va_rf (some a0)), (1, .int a1)]) hx hb dX0_isAsTold_19 rfl hl (by decide) rfl (fun ls hl => ?_)
  refine lv_iconst (v := (0 : Int32)) hx hb dX0_isAsTold_20 (by decide) ?_
  refine lv_istore_n (lv' := [(3, .int (0 : Int32)), (2, .int x7), (0, va_rf (some a0)), (1, .int a1)]) hx hb dX0_isAsTold_21 rfl hl (by decide) rfl (fun ls hl => ?_)
  exact wX0_isAsTold_22 S hr hlk hnm hG hRM FU h5 x7 (0 : Int32) z _ _ hH hS _ (lv_sub hl [2, 1, 0] rfl)

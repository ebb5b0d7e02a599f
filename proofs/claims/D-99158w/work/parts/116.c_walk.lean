set_option maxRecDepth 100000
/-! FourOnOne.isRest(I)Z -/
def fX0_isRest_2 (K : KE) (h : HS) (a0 : Nat) : Nat → Int32 → Int32 → Option (Int32)
  | 0, _, _ => none
  | n + 1, a1, a2 =>
    (rcv K h (some a0) 0).bind fun b1 =>
    (fX0_people K h b1).bind fun x2 =>
    if x2 ≤ a2 then
      some (1 : Int32)
    else
    (gR K h (some a0) 0 11).bind fun v4 =>
    (cR K h v4 9 (a1 ^^^ ((1 : Int32) <<< (a2 &&& 31)))).bind fun v5 =>
    (cL K h v5 1 a2).bind fun v6 =>
    (gR K h (some a0) 0 11).bind fun v7 =>
    (cR K h v7 9 a1).bind fun v8 =>
    (cL K h v8 1 a2).bind fun v9 =>
    if v6 ≤ v9 then
      fX0_isRest_2 K h a0 n a1 (a2 + (1 : Int32))
    else
    some (0 : Int32)
def fX0_isRest (K : KE) (h : HS) (a0 : Nat) (a1 : Int32) : Option (Int32) :=
  fX0_isRest_2 K h a0 FU a1 (0 : Int32)
set_option maxHeartbeats 4000000 in
theorem wX0_isRest_2 {p : Program} {l : Launch} {e : Env} {s : State} {m : MethodId} {args : Array Value} {below : List Frame} {meth : Method} {c : Code} {A : Nat → Prop} {D : va_G} {ac : Nat → ClassId} {K : KE} {h : HS} {a0 : Nat} (S : CallFix p m c cX0_isRest 3 s args lw_all RX0) (hr : meth.sig.returnType = some .boolean) (hlk : meth.locks = false) (hnm : meth.name = "isRest") (hG : GK A D ac K s) (hRM : RM K s (rmC 3 40 K h)) {x : Int32} : ∀ (n : Nat) (a1 : Int32) (a2 : Int32), fX0_isRest_2 K h a0 n a1 a2 = some x → cGo p l e (rmC 3 40 K h) s m args below meth c A D ac K (MQ below (cQi A D ac K (h, x)) args s (K.2.2.1 - h.2.1) (K.2.2.2 - h.2.2) A) 3 2 [(0, va_rf (some a0)), (1, .int a1), (2, .int a2)] [] h := by
  obtain ⟨hx, hb, hml, hown, hts⟩ := id S
  intro n
  induction n with
  | zero => intro a1 a2 z; cases z
  | succ n ih =>
    intro a1 a2 z H locs hH hS ls hl
    rw [fX0_isRest_2] at z
    refine lv_iload_n hx hb dX0_isRest_2 rfl (lv_at hl 2 rfl) ?_
    refine c_aload_n hx hb dX0_isRest_3 rfl (lv_at hl 0 rfl) ?_
    replace z := ob z
    obtain ⟨b1, zb1, z⟩ := z
    obtain ⟨yb1, zb1⟩ := rcv_e zb1
    replace z := ob z
    obtain ⟨x2, zx2, z⟩ := z
    refine c_calli hH hS hRM (fun _ _ f1 f2 => va_runV (b := b1) (As := []) (rest := [.int a2]) S (metX0_people zx2) (cwV 0 hts (lw_V q1278 q1280 qs37 q167 q1281) rfl rfl rfl (by decide +kernel) ⟨(Nat.le_of_ble_eq_true rfl), (Nat.le_of_ble_eq_true rfl)⟩) (c_preV hG hH hS (ci := 0) rfl zb1) rfl rfl hl.1 (by rw [yb1]; rfl) (lv_room (Nat.le_of_ble_eq_true rfl)) dX0_isRest_4 ⟨f1, f2⟩) (fun H locs hH hS => ?_)
    refine lv_icmp_ge (tgt := 42) hx hb dX0_isRest_7 (by decide) (fun c3 => ?_) (fun c3 => ?_)
    · replace z := it c3 z
      refine lv_iconst (v := (1 : Int32)) hx hb dX0_isRest_42 (by decide) ?_
      exact c_iret' S hr hlk rfl hH hS z dX0_isRest_43
    replace z := ie c3 z
    refine c_aload_n hx hb dX0_isRest_10 rfl (lv_at hl 0 rfl) ?_
    replace z := ob z
    obtain ⟨v4, zv4, z⟩ := z
    obtain ⟨fsv4, yv4, zv4⟩ := gR_e zv4
    refine c_get S hG hH (ci := 0) (k := 11) rfl in_X0 (Nat.le_of_ble_eq_true rfl) q491 (fun _ y => y) yv4 zv4 dX0_isRest_11 ?_
    refine lv_iload_n hx hb dX0_isRest_14 rfl (lv_at hl 1 rfl) ?_
    refine lv_iconst (v := (1 : Int32)) hx hb dX0_isRest_15 (by decide) ?_
    refine lv_iload_n hx hb dX0_isRest_16 rfl (lv_at hl 2 rfl) ?_
    refine lv_ishl hx hb dX0_isRest_17 ?_
    refine lv_ixor hx hb dX0_isRest_18 ?_
    replace z := ob z
    obtain ⟨v5, zv5, z⟩ := z
    refine c_aald S hG hH 9 rfl rfl zv5 dX0_isRest_19 ?_
    refine lv_iload_n hx hb dX0_isRest_20 rfl (lv_at hl 2 rfl) ?_
    replace z := ob z
    obtain ⟨v6, zv6, z⟩ := z
    refine c_lald S hG hH zv6 dX0_isRest_21 ?_
    refine c_aload_n hx hb dX0_isRest_22 rfl (lv_at hl 0 rfl) ?_
    replace z := ob z
    obtain ⟨v7, zv7, z⟩ := z
    obtain ⟨fsv7, yv7, zv7⟩ := gR_e zv7
    refine c_get S hG hH (ci := 0) (k := 11) rfl in_X0 (Nat.le_of_ble_eq_true rfl) q491 (fun _ y => y) yv7 zv7 dX0_isRest_23 ?_
    refine lv_iload_n hx hb dX0_isRest_26 rfl (lv_at hl 1 rfl) ?_
    replace z := ob z
    obtain ⟨v8, zv8, z⟩ := z
    refine c_aald S hG hH 9 rfl rfl zv8 dX0_isRest_27 ?_
    refine lv_iload_n hx hb dX0_isRest_28 rfl (lv_at hl 2 rfl) ?_
    replace z := ob z
    obtain ⟨v9, zv9, z⟩ := z
    refine c_lald S hG hH zv9 dX0_isRest_29 ?_
    refine W.lcmp hx hb dX0_isRest_30 ?_
    refine lv_if_le (tgt := 36) hx hb dX0_isRest_31 (by decide) (fun c10 => ?_) (fun c10 => ?_)
    rotate_left 1
    · replace z := ie (fun q => c10 ((lg_cmp_le _ _).mpr q)) z
      refine lv_iconst (v := (0 : Int32)) hx hb dX0_isRest_34 (by decide) ?_
      exact c_iret' S hr hlk rfl hH hS z dX0_isRest_35
    replace z := it ((lg_cmp_le _ _).mp c10) z
    refine lv_iinc (v := (a2 + (1 : Int32))) (lv' := [(2, .int (a2 + (1 : Int32))), (0, va_rf (some a0)), (1, .int a1)]) hx hb dX0_isRest_36 hl (k := 2) rfl rfl (by decide) rfl (fun ls hl => ?_)
    refine lv_goto (tgt := 2) hx hb dX0_isRest_39 (by decide) ?_
    exact ih a1 (a2 + (1 : Int32)) z _ _ hH hS _ (lv_sub hl [1, 2, 0] rfl)
set_option maxHeartbeats 4000000 in
theorem metX0_isRest {l : Launch} {A : Nat → Prop} {D : va_G} {ac : Nat → ClassId} {K : KE} {h : HS} {a0 : Nat} {a1 : Int32} {x : Int32} (z : fX0_isRest K h a0 a1 = some x) : Met l yX0_isRest (ws_ yX0_isRest cX0_isRest 3 (some .boolean)) (rmC 3 40 K h) (cP A D ac K h [va_rf (some a0), .int a1]) (cQi A D ac K (h, x)) (K.2.2.1 - h.2.1) (K.2.2.2 - h.2.2) A := by
  refine c_entry (plainFor_of_name (by decide)) (Nat.le_of_ble_eq_true rfl) ?_
  intro p e s m below meth c S hr hlk hnm hG hRM hH hS ls hl
  replace hl : lv_has ls 3 [(0, va_rf (some a0)), (1, .int a1)] := hl
  replace hnm : meth.name = "isRest" := hnm
  replace S : CallFix p m c cX0_isRest 3 s _ lw_all RX0 := S
  obtain ⟨hx, hb, hml, hown, hts⟩ := id S
  unfold fX0_isRest at z
  refine lv_iconst (v := (0 : Int32)) hx hb dX0_isRest_0 (by decide) ?_
  refine lv_istore_n (lv' := [(2, .int (0 : Int32)), (0, va_rf (some a0)), (1, .int a1)]) hx hb dX0_isRest_1 rfl hl (by decide) rfl (fun ls hl => ?_)
  exact wX0_isRest_2 S hr hlk hnm hG hRM FU a1 (0 : Int32) z _ _ hH hS _ (lv_sub hl [1, 2, 0] rfl)
/-! FourOnOne.who(III)I -/
def fX0_who_69 (K : KE) (h : HS) (a0 : Nat) (k34 : Int32 → Int32 → Int32 → Int64 → Int32 → Option (Int32)) (a1 : Int32) (a2 : Int32) (a3 : Int32) (a6 : Int32) (t0 : Int64) (t1 : Int64) : Option (Int32) :=
  k34 a1 a2 a3 (t0 + t1) (a6 + (1 : Int32))
def fX0_who_34 (K : KE) (h : HS) (a0 : Nat) : Nat → Int32 → Int32 → Int32 → Int64 → Int32 → Option (Int32)
  | 0, _, _, _, _, _ => none
  | n + 1, a1, a2, a3, a4, a6 =>
    (rcv K h (some a0) 0).bind fun b1 =>
    (fX0_people K h b1).bind fun x2 =>
    if x2 ≤ a6 then
      if a4 = (0 : Int64) then
        some (-1 : Int32)
      else
      (rcv K h (some a0) 0).bind fun b5 =>
      (fX0_isFree K h b5 a1 a3).bind fun x6 =>
      if x6 = 0 then
        some (0 : Int32)
      else
      (rcv K h (some a0) 0).bind fun b8 =>
      (fX0_worthOf K h b8 a1 a2).bind fun x9 =>
      (nzl a4).bind fun d10 =>
      some ((((x9.toInt64 + (1 : Int64)) * (1000000 : Int64)) / a4).toInt32)
    else
    (rcv K h (some a0) 0).bind fun b11 =>
    (fX0_isFree K h b11 a6 a3).bind fun x12 =>
    if x12 = 0 then
      fX0_who_69 K h a0 (fun b1 b2 b3 b4 b6 => fX0_who_34 K h a0 n b1 b2 b3 b4 b6) a1 a2 a3 a6 a4 (0 : Int64)
    else
    (rcv K h (some a0) 0).bind fun b14 =>
    (fX0_worthOf K h b14 a6 a2).bind fun x15 =>
    fX0_who_69 K h a0 (fun b1 b2 b3 b4 b6 => fX0_who_34 K h a0 n b1 b2 b3 b4 b6) a1 a2 a3 a6 a4 ((x15 + (1 : Int32)).toInt64)
def fX0_who (K : KE) (h : HS) (a0 : Nat) (a1 : Int32) (a2 : Int32) (a3 : Int32) : Option (Int32) :=
  (rcv K h (some a0) 0).bind fun b1 =>
  (fX0_isPerson K h b1 a1).bind fun x2 =>
  if x2 = 0 then
    some (-1 : Int32)
  else
  (rcv K h (some a0) 0).bind fun b4 =>
  (fX0_isFilm K h b4 a2).bind fun x5 =>
  if x5 = 0 then
    some (-1 : Int32)
  else
  (fX0_is K h a3 (0 : Int32) (23 : Int32)).bind fun x7 =>
  if x7 = 0 then
    some (-1 : Int32)
  else
  fX0_who_34 K h a0 FU a1 a2 a3 (0 : Int64) (0 : Int32)
set_option maxHeartbeats 4000000 in
theorem wX0_who_69 {p : Program} {l : Launch} {e : Env} {s : State} {m : MethodId} {args : Array Value} {below : List Frame} {meth : Method} {c : Code} {A : Nat → Prop} {D : va_G} {ac : Nat → ClassId} {K : KE} {h : HS} {a0 : Nat} (S : CallFix p m c cX0_who 7 s args lw_all RX0) (hr : meth.sig.returnType = some .int) (hlk : meth.locks = false) (hnm : meth.name = "who") (hG : GK A D ac K s) (hRM : RM K s (rmC 6 109 K h)) {x : Int32} {k34 : Int32 → Int32 → Int32 → Int64 → Int32 → Option (Int32)} (hk34 : ∀ a1 a2 a3 a4 a6, k34 a1 a2 a3 a4 a6 = some x → cGo p l e (rmC 6 109 K h) s m args below meth c A D ac K (MQ below (cQi A D ac K (h, x)) args s (K.2.2.1 - h.2.1) (K.2.2.2 - h.2.2) A) 7 34 [(0, va_rf (some a0)), (1, .int a1), (2, .int a2), (3, .int a3), (4, .long a4), (6, .int a6)] [] h) : ∀ (a1 : Int32) (a2 : Int32) (a3 : Int32) (a6 : Int32) (t0 : Int64) (t1 : Int64), fX0_who_69 K h a0 k34 a1 a2 a3 a6 t0 t1 = some x → cGo p l e (rmC 6 109 K h) s m args below meth c A D ac K (MQ below (cQi A D ac K (h, x)) args s (K.2.2.1 - h.2.1) (K.2.2.2 - h.2.2) A) 7 69 [(0, va_rf (some a0)), (1, .int a1), (2, .int a2), (3, .int a3), (6, .int a6)] [.long t1, .long t0] h := by
  obtain ⟨hx, hb, hml, hown, hts⟩ := id S
  intro a1 a2 a3 a6 t0 t1 z H locs hH hS ls hl
  unfold fX0_who_69 at z
  refine lv_ladd hx hb dX0_who_69 ?_
  refine lv_lstore (lv' := [(4, .long (t0 + t1)), (0, va_rf (some a0)), (1, .int a1), (2, .int a2), (3, .int a3), (6, .int a6)]) hx hb dX0_who_70 hl (by decide) rfl (fun ls hl => ?_)
  refine lv_iinc (v := (a6 + (1 : Int32))) (lv' := [(6, .int (a6 + (1 : Int32))), (4, .long (t0 + t1)), (0, va_rf (some a0)), (1, .int a1), (2, .int a2), (3, .int a3)]) hx hb dX0_who_72 hl (k := 5) rfl rfl (by decide) rfl (fun ls hl => ?_)
  refine lv_goto (tgt := 34) hx hb dX0_who_75 (by decide) ?_
  exact hk34 a1 a2 a3 (t0 + t1) (a6 + (1 : Int32)) z _ _ hH hS _ (lv_sub hl [2, 3, 4, 5, 1, 0] rfl)
set_option maxHeartbeats 4000000 in
theorem wX0_who_34 {p : Program} {l : Launch} {e : Env} {s : State} {m : MethodId} {args : Array Value} {below : List Frame} {meth : Method} {c : Code} {A : Nat → Prop} {D : va_G} {ac : Nat → ClassId} {K : KE} {h : HS} {a0 : Nat} (S : CallFix p m c cX0_who 7 s args lw_all RX0) (hr : meth.sig.returnType = some .int) (hlk : meth.locks = false) (hnm : meth.name = "who") (hG : GK A D ac K s) (hRM : RM K s (rmC 6 109 K h)) {x : Int32} : ∀ (n : Nat) (a1 : Int32) (a2 : Int32) (a3 : Int32) (a4 : Int64) (a6 : Int32), fX0_who_34 K h a0 n a1 a2 a3 a4 a6 = some x → cGo p l e (rmC 6 109 K h) s m args below meth c A D ac K (MQ below (cQi A D ac K (h, x)) args s (K.2.2.1 - h.2.1) (K.2.2.2 - h.2.2) A) 7 34 [(0, va_rf (some a0)), (1, .int a1), (2, .int a2), (3, .int a3), (4, .long a4), (6, .int a6)] [] h := by
  obtain ⟨hx, hb, hml, hown, hts⟩ := id S
  intro n
  induction n with
  | zero => intro a1 a2 a3 a4 a6 z; cases z
  | succ n ih =>
    intro a1 a2 a3 a4 a6 z H locs hH hS ls hl
    rw [fX0_who_34] at z
    refine lv_iload hx hb dX0_who_34 (lv_at hl 5 rfl) ?_
    refine c_aload_n hx hb dX0_who_36 rfl (lv_at hl 0 rfl) ?_
    replace z := ob z
    obtain ⟨b1, zb1, z⟩ := z
    obtain ⟨yb1, zb1⟩ := rcv_e zb1
    replace z := ob z
    obtain ⟨x2, zx2, z⟩ := z
    refine c_calli hH hS hRM (fun _ _ f1 f2 => va_runV (b := b1) (As := []) (rest := [.int a6]) S (metX0_people zx2) (cwV 0 hts (lw_V q1278 q1280 qs37 q167 q1281) rfl rfl rfl (by decide +kernel) ⟨(Nat.le_of_ble_eq_true rfl), (Nat.le_of_ble_eq_true rfl)⟩) (c_preV hG hH hS (ci := 0) rfl zb1) rfl rfl hl.1 (by rw [yb1]; rfl) (lv_room (Nat.le_of_ble_eq_true rfl)) dX0_who_37 ⟨f1, f2⟩) (fun H locs hH hS => ?_)
    refine lv_icmp_ge (tgt := 78) hx hb dX0_who_40 (by decide) (fun c3 => ?_) (fun c3 => ?_)
    rotate_left 1
    · replace z := ie c3 z
      refine lv_lload hx hb dX0_who_43 (lv_at hl 4 rfl) ?_
      refine c_aload_n hx hb dX0_who_45 rfl (lv_at hl 0 rfl) ?_
      refine lv_iload hx hb dX0_who_46 (lv_at hl 5 rfl) ?_
      refine lv_iload_n hx hb dX0_who_48 rfl (lv_at hl 3 rfl) ?_
      replace z := ob z
      obtain ⟨b11, zb11, z⟩ := z
      obtain ⟨yb11, zb11⟩ := rcv_e zb11
      replace z := ob z
      obtain ⟨x12, zx12, z⟩ := z
      refine c_calli hH hS hRM (fun _ _ f1 f2 => va_runV (b := b11) (As := [.int a6, .int a3]) (rest := [.long a4]) S (metX0_isFree zx12) (cwV 2 hts (lw_V q1565 q1502 qs48 q167 q1503) rfl rfl rfl (by decide +kernel) ⟨(Nat.le_of_ble_eq_true rfl), (Nat.le_of_ble_eq_true rfl)⟩) (c_preV hG hH hS (ci := 0) rfl zb11) rfl rfl hl.1 (by rw [yb11]; rfl) (lv_room (Nat.le_of_ble_eq_true rfl)) dX0_who_49 ⟨f1, f2⟩) (fun H locs hH hS => ?_)
      refine lv_if_eq (tgt := 68) hx hb dX0_who_52 (by decide) (fun c13 => ?_) (fun c13 => ?_)
      · replace z := it c13 z
        refine lv_lconst (v := (0 : Int64)) hx hb dX0_who_68 (by decide) ?_
        exact wX0_who_69 S hr hlk hnm hG hRM ih a1 a2 a3 a6 a4 (0 : Int64) z _ _ hH hS _ (lv_sub hl [0, 1, 2, 3, 5] rfl)
      replace z := ie c13 z
      refine c_aload_n hx hb dX0_who_55 rfl (lv_at hl 0 rfl) ?_
      refine lv_iload hx hb dX0_who_56 (lv_at hl 5 rfl) ?_
      refine lv_iload_n hx hb dX0_who_58 rfl (lv_at hl 2 rfl) ?_
      replace z := ob z
      obtain ⟨b14, zb14, z⟩ := z
      obtain ⟨yb14, zb14⟩ := rcv_e zb14
      replace z := ob z
      obtain ⟨x15, zx15, z⟩ := z
      refine c_calli hH hS hRM (fun _ _ f1 f2 => va_runV (b := b14) (As := [.int a6, .int a2]) (rest := [.long a4]) S (metX0_worthOf zx15) (cwV 2 hts (lw_V q1471 q1473 qs46 q167 q1474) rfl rfl rfl (by decide +kernel) ⟨(Nat.le_of_ble_eq_true rfl), (Nat.le_of_ble_eq_true rfl)⟩) (c_preV hG hH hS (ci := 0) rfl zb14) rfl rfl hl.1 (by rw [yb14]; rfl) (lv_room (Nat.le_of_ble_eq_true rfl)) dX0_who_59 ⟨f1, f2⟩) (fun H locs hH hS => ?_)
      refine lv_iconst (v := (1 : Int32)) hx hb dX0_who_62 (by decide) ?_
      refine lv_iadd hx hb dX0_who_63 ?_
      refine lv_i2l (v := (x15 + (1 : Int32)).toInt64) hx hb dX0_who_64 rfl ?_
      refine lv_goto (tgt := 69) hx hb dX0_who_65 (by decide) ?_
      exact wX0_who_69 S hr hlk hnm hG hRM ih a1 a2 a3 a6 a4 ((x15 + (1 : Int32)).toInt64) z _ _ hH hS _ (lv_sub hl [0, 1, 2, 3, 5] rfl)
    replace z := it c3 z
    refine lv_lload hx hb dX0_who_78 (lv_at hl 4 rfl) ?_
    refine lv_lconst (v := (0 : Int64)) hx hb dX0_who_80 (by decide) ?_
    refine W.lcmp hx hb dX0_who_81 ?_
    refine lv_if_ne (tgt := 87) hx hb dX0_who_82 (by decide) (fun c4 => ?_) (fun c4 => ?_)
    rotate_left 1
    · replace z := it ((lg_cmp_eq _ _).mp c4) z
      refine lv_iconst (v := (-1 : Int32)) hx hb dX0_who_85 (by decide) ?_
      exact c_iret' S hr hlk rfl hH hS z dX0_who_86
    replace z := ie (fun q => c4 ((lg_cmp_eq _ _).mpr q)) z
    refine c_aload_n hx hb dX0_who_87 rfl (lv_at hl 0 rfl) ?_
    refine lv_iload_n hx hb dX0_who_88 rfl (lv_at hl 1 rfl) ?_
    refine lv_iload_n hx hb dX0_who_89 rfl (lv_at hl 3 rfl) ?_
    replace z := ob z
    obtain ⟨b5, zb5, z⟩ := z
    obtain ⟨yb5, zb5⟩ := rcv_e zb5
    replace z := ob z
    obtain ⟨x6, zx6, z⟩ := z
    refine c_calli hH hS hRM (fun _ _ f1 f2 => va_runV (b := b5) (As := [.int a1, .int a3]) (rest := []) S (metX0_isFree zx6) (cwV 2 hts (lw_V q1565 q1502 qs48 q167 q1503) rfl rfl rfl (by decide +kernel) ⟨(Nat.le_of_ble_eq_true rfl), (Nat.le_of_ble_eq_true rfl)⟩) (c_preV hG hH hS (ci := 0) rfl zb5) rfl rfl hl.1 (by rw [yb5]; rfl) (lv_room (Nat.le_of_ble_eq_true rfl)) dX0_who_90 ⟨f1, f2⟩) (fun H locs hH hS => ?_)
    refine lv_if_eq (tgt := 116) hx hb dX0_who_93 (by decide) (fun c7 => ?_) (fun c7 => ?_)
    · replace z := it c7 z
      refine lv_iconst (v := (0 : Int32)) hx hb dX0_who_116 (by decide) ?_
      exact c_iret' S hr hlk rfl hH hS z dX0_who_117
    replace z := ie c7 z
    refine c_aload_n hx hb dX0_who_96 rfl (lv_at hl 0 rfl) ?_
    refine lv_iload_n hx hb dX0_who_97 rfl (lv_at hl 1 rfl) ?_
    refine lv_iload_n hx hb dX0_who_98 rfl (lv_at hl 2 rfl) ?_
    replace z := ob z
    obtain ⟨b8, zb8, z⟩ := z
    obtain ⟨yb8, zb8⟩ := rcv_e zb8
    replace z := ob z
    obtain ⟨x9, zx9, z⟩ := z
    refine c_calli hH hS hRM (fun _ _ f1 f2 => va_runV (b := b8) (As := [.int a1, .int a2]) (rest := []) S (metX0_worthOf zx9) (cwV 2 hts (lw_V q1471 q1473 qs46 q167 q1474) rfl rfl rfl (by decide +kernel) ⟨(Nat.le_of_ble_eq_true rfl), (Nat.le_of_ble_eq_true rfl)⟩) (c_preV hG hH hS (ci := 0) rfl zb8) rfl rfl hl.1 (by rw [yb8]; rfl) (lv_room (Nat.le_of_ble_eq_true rfl)) dX0_who_99 ⟨f1, f2⟩) (fun H locs hH hS => ?_)
    refine lv_i2l (v := x9.toInt64) hx hb dX0_who_102 rfl ?_
    refine lv_lconst (v := (1 : Int64)) hx hb dX0_who_103 (by decide) ?_
    refine lv_ladd hx hb dX0_who_104 ?_
    refine lv_ldc2 hx hb hown (hts _ q1416) dX0_who_105 ?_
    refine lv_lmul hx hb dX0_who_108 ?_
    refine lv_lload hx hb dX0_who_109 (lv_at hl 4 rfl) ?_
    replace z := ob z
    obtain ⟨d10, zd10, z⟩ := z
    obtain ⟨zd10, -⟩ := nzl_e zd10
    refine lv_ldiv hx hb dX0_who_111 zd10 ?_
    refine lv_l2i (v := (((x9.toInt64 + (1 : Int64)) * (1000000 : Int64)) / a4).toInt32) hx hb dX0_who_112 rfl ?_
    refine lv_goto (tgt := 117) hx hb dX0_who_113 (by decide) ?_
    exact c_iret' S hr hlk rfl hH hS z dX0_who_117
set_option maxHeartbeats 4000000 in
theorem metX0_who {l : Launch} {A : Nat → Prop} {D : va_G} {ac : Nat → ClassId} {K : KE} {h : HS} {a0 : Nat} {a1 : Int32} {a2 : Int32} {a3 : Int32} {x : Int32} (z : fX0_who K h a0 a1 a2 a3 = some x) : Met l yX0_who (ws_ yX0_who cX0_who 7 (some .int)) (rmC 6 109 K h) (cP A D ac K h [va_rf (some a0), .int a1, .int a2, .int a3]) (cQi A D ac K (h, x)) (K.2.2.1 - h.2.1) (K.2.2.2 - h.2.2) A := by
  refine c_entry (plainFor_of_name (by decide)) (Nat.le_of_ble_eq_true rfl) ?_
  intro p e s m below meth c S hr hlk hnm hG hRM hH hS ls hl
  replace hl : lv_has ls 7 [(0, va_rf (some a0)), (1, .int a1), (2, .int a2), (3, .int a3)] := hl
  replace hnm : meth.name = "who" := hnm
  replace S : CallFix p m c cX0_who 7 s _ lw_all RX0 := S
  obtain ⟨hx, hb, hml, hown, hts⟩ := id S
  unfold fX0_who at z
  refine c_aload_n hx hb dX0_who_0 rfl (lv_at hl 0 rfl) ?_
  refine lv_iload_n hx hb dX0_who_1 rfl (lv_at hl 1 rfl) ?_
  replace z := ob z
  obtain ⟨b1, zb1, z⟩ := z
  obtain ⟨yb1, zb1⟩ := rcv_e zb1
  replace z := ob z
  obtain ⟨x2, zx2, z⟩ := z
  refine c_calli hH hS hRM (fun _ _ f1 f2 => va_runV (b := b1) (As := [.int a1]) (rest := []) S (metX0_isPerson zx2) (cwV 1 hts (lw_V q1340 q1342 qs42 q167 q1343) rfl rfl rfl (by decide +kernel) ⟨(Nat.le_of_ble_eq_true rfl), (Nat.le_of_ble_eq_true rfl)⟩) (c_preV hG hH hS (ci := 0) rfl zb1) rfl rfl hl.1 (by rw [yb1]; rfl) (lv_room (Nat.le_of_ble_eq_true rfl)) dX0_who_2 ⟨f1, f2⟩) (fun H locs hH hS => ?_)
  refine lv_if_eq (tgt := 26) hx hb dX0_who_5 (by decide) (fun c3 => ?_) (fun c3 => ?_)
  · replace z := it c3 z
    refine lv_iconst (v := (-1 : Int32)) hx hb dX0_who_26 (by decide) ?_
    exact c_iret' S hr hlk rfl hH hS z dX0_who_27
  replace z := ie c3 z
  refine c_aload_n hx hb dX0_who_8 rfl (lv_at hl 0 rfl) ?_
  refine lv_iload_n hx hb dX0_who_9 rfl (lv_at hl 2 rfl) ?_
  replace z := ob z
  obtain ⟨b4, zb4, z⟩ := z
  obtain ⟨yb4, zb4⟩ := rcv_e zb4
  replace z := ob z
  obtain ⟨x5, zx5, z⟩ := z
  refine c_calli hH hS hRM (fun _ _ f1 f2 => va_runV (b := b4) (As := [.int a2]) (rest := []) S (metX0_isFilm zx5) (cwV 1 hts (lw_V q1323 q1325 qs39 q167 q1326) rfl rfl rfl (by decide +kernel) ⟨(Nat.le_of_ble_eq_true rfl), (Nat.le_of_ble_eq_true rfl)⟩) (c_preV hG hH hS (ci := 0) rfl zb4) rfl rfl hl.1 (by rw [yb4]; rfl) (lv_room (Nat.le_of_ble_eq_true rfl)) dX0_who_10 ⟨f1, f2⟩) (fun H locs hH hS => ?_)
  refine lv_if_eq (tgt := 26) hx hb dX0_who_13 (by decide) (fun c6 => ?_) (fun c6 => ?_)
  · replace z := it c6 z
    refine lv_iconst (v := (-1 : Int32)) hx hb dX0_who_26 (by decide) ?_
    exact c_iret' S hr hlk rfl hH hS z dX0_who_27
  replace z := ie c6 z
  refine lv_iload_n hx hb dX0_who_16 rfl (lv_at hl 3 rfl) ?_
  refine lv_iconst (v := (0 : Int32)) hx hb dX0_who_17 (by decide) ?_
  refine lv_bipush (v := (23 : Int32)) hx hb dX0_who_18 (by decide) ?_
  replace z := ob z
  obtain ⟨x7, zx7, z⟩ := z
  refine c_calli hH hS hRM (fun _ _ f1 f2 => va_runS (As := [.int a3, .int (0 : Int32), .int (23 : Int32)]) (rest := []) S (metX0_is zx7) (va_cwS 3 hts (lw_S q1296 q924 q167 q925) rfl rfl rfl (by decide +kernel) ⟨(Nat.le_of_ble_eq_true rfl), (Nat.le_of_ble_eq_true rfl)⟩) (c_pre hG hH hS) rfl rfl hl.1 rfl (lv_room (Nat.le_of_ble_eq_true rfl)) dX0_who_20 ⟨f1, f2⟩) (fun H locs hH hS => ?_)
  refine lv_if_ne (tgt := 28) hx hb dX0_who_23 (by decide) (fun c8 => ?_) (fun c8 => ?_)
  rotate_left 1
  · replace z := it c8 z
    refine lv_iconst (v := (-1 : Int32)) hx hb dX0_who_26 (by decide) ?_
    exact c_iret' S hr hlk rfl hH hS z dX0_who_27
  replace z := ie c8 z
  refine lv_lconst (v := (0 : Int64)) hx hb dX0_who_28 (by decide) ?_
  refine lv_lstore (lv' := [(4, .long (0 : Int64)), (0, va_rf (some a0)), (1, .int a1), (2, .int a2), (3, .int a3)]) hx hb dX0_who_29 hl (by decide) rfl (fun ls hl => ?_)
  refine lv_iconst (v := (0 : Int32)) hx hb dX0_who_31 (by decide) ?_
  refine lv_istore (lv' := [(6, .int (0 : Int32)), (4, .long (0 : Int64)), (0, va_rf (some a0)), (1, .int a1), (2, .int a2), (3, .int a3)]) hx hb dX0_who_32 hl (by decide) rfl (fun ls hl => ?_)
  exact wX0_who_34 S hr hlk hnm hG hRM FU a1 a2 a3 (0 : Int64) (0 : Int32) z _ _ hH hS _ (lv_sub hl [2, 3, 4, 5, 1, 0] rfl)
/-! FourOnOne.firstFilm(I)I -/
def fX0_firstFilm_29 (K : KE) (h : HS) (a0 : Nat) (k4 : Int32 → Int32 → Int32 → Option (Int32)) (a1 : Int32) (a2 : Int32) (a3 : Int32) : Option (Int32) :=
  k4 a1 a2 (a3 + (1 : Int32))
def fX0_firstFilm_4 (K : KE) (h : HS) (a0 : Nat) : Nat → Int32 → Int32 → Int32 → Option (Int32)
  | 0, _, _, _ => none
  | n + 1, a1, a2, a3 =>
    (rcv K h (some a0) 0).bind fun b1 =>
    (fX0_films K h b1).bind fun x2 =>
    if x2 ≤ a3 then
      some a2
    else
    (rcv K h (some a0) 0).bind fun b4 =>
    (fX0_worthOf K h b4 a1 a3).bind fun x5 =>
    (rcv K h (some a0) 0).bind fun b6 =>
    (fX0_worthOf K h b6 a1 a2).bind fun x7 =>
    if x5 ≤ x7 then
      fX0_firstFilm_29 K h a0 (fun b1 b2 b3 => fX0_firstFilm_4 K h a0 n b1 b2 b3) a1 a2 a3
    else
    fX0_firstFilm_29 K h a0 (fun b1 b2 b3 => fX0_firstFilm_4 K h a0 n b1 b2 b3) a1 a3 a3
def fX0_firstFilm (K : KE) (h : HS) (a0 : Nat) (a1 : Int32) : Option (Int32) :=
  fX0_firstFilm_4 K h a0 FU a1 (0 : Int32) (1 : Int32)
set_option maxHeartbeats 4000000 in
theorem wX0_firstFilm_29 {p : Program} {l : Launch} {e : Env} {s : State} {m : MethodId} {args : Array Value} {below : List Frame} {meth : Method} {c : Code} {A : Nat → Prop} {D : va_G} {ac : Nat → ClassId} {K : KE} {h : HS} {a0 : Nat} (S : CallFix p m c cX0_firstFilm 4 s args lw_all RX0) (hr : meth.sig.returnType = some .int) (hlk : meth.locks = false) (hnm : meth.name = "firstFilm") (hG : GK A D ac K s) (hRM : RM K s (rmC 6 109 K h)) {x : Int32} {k4 : Int32 → Int32 → Int32 → Option (Int32)} (hk4 : ∀ a1 a2 a3, k4 a1 a2 a3 = some x → cGo p l e (rmC 6 109 K h) s m args below meth c A D ac K (MQ below (cQi A D ac K (h, x)) args s (K.2.2.1 - h.2.1) (K.2.2.2 - h.2.2) A) 4 4 [(0, va_rf (some a0)), (1, .int a1), (2, .int a2), (3, .int a3)] [] h) : ∀ (a1 : Int32) (a2 : Int32) (a3 : Int32), fX0_firstFilm_29 K h a0 k4 a1 a2 a3 = some x → cGo p l e (rmC 6 109 K h) s m args below meth c A D ac K (MQ below (cQi A D ac K (h, x)) args s (K.2.2.1 - h.2.1) (K.2.2.2 - h.2.2) A) 4 29 [(0, va_rf (some a0)), (1, .int a1), (2, .int a2), (3, .int a3)] [] h := by
  obtain ⟨hx, hb, hml, hown, hts⟩ := id S
  intro a1 a2 a3 z H locs hH hS ls hl
  unfold fX0_firstFilm_29 at z
  refine lv_iinc (v := (a3 + (1 : Int32))) (lv' := [(3, .int (a3 + (1 : Int32))), (0, va_rf (some a0)), (1, .int a1), (2, .int a2)]) hx hb dX0_firstFilm_29 hl (k := 3) rfl rfl (by decide) rfl (fun ls hl => ?_)
  refine lv_goto (tgt := 4) hx hb dX0_firstFilm_32 (by decide) ?_
  exact hk4 a1 a2 (a3 + (1 : Int32)) z _ _ hH hS _ (lv_sub hl [1, 2, 3, 0] rfl)
set_option maxHeartbeats 4000000 in
theorem wX0_firstFilm_4 {p : Program} {l : Launch} {e : Env} {s : State} {m : MethodId} {args : Array Value} {below : List Frame} {meth : Method} {c : Code} {A : Nat → Prop} {D : va_G} {ac : Nat → ClassId} {K : KE} {h : HS} {a0 : Nat} (S : CallFix p m c cX0_firstFilm 4 s args lw_all RX0) (hr : meth.sig.returnType = some .int) (hlk : meth.locks = false) (hnm : meth.name = "firstFilm") (hG : GK A D ac K s) (hRM : RM K s (rmC 6 109 K h)) {x : Int32} : ∀ (n : Nat) (a1 : Int32) (a2 : Int32) (a3 : Int32), fX0_firstFilm_4 K h a0 n a1 a2 a3 = some x → cGo p l e (rmC 6 109 K h) s m args below meth c A D ac K (MQ below (cQi A D ac K (h, x)) args s (K.2.2.1 - h.2.1) (K.2.2.2 - h.2.2) A) 4 4 [(0, va_rf (some a0)), (1, .int a1), (2, .int a2), (3, .int a3)] [] h := by
  obtain ⟨hx, hb, hml, hown, hts⟩ := id S
  intro n
  induction n with
  | zero => intro a1 a2 a3 z; cases z
  | succ n ih =>
    intro a1 a2 a3 z H locs hH hS ls hl
    rw [fX0_firstFilm_4] at z
    refine lv_iload_n hx hb dX0_firstFilm_4 rfl (lv_at hl 3 rfl) ?_
    refine c_aload_n hx hb dX0_firstFilm_5 rfl (lv_at hl 0 rfl) ?_
    replace z := ob z
    obtain ⟨b1, zb1, z⟩ := z
    obtain ⟨yb1, zb1⟩ := rcv_e zb1
    replace z := ob z
    obtain ⟨x2, zx2, z⟩ := z
    refine c_calli hH hS hRM (fun _ _ f1 f2 => va_runV (b := b1) (As := []) (rest := [.int a3]) S (metX0_films zx2) (cwV 0 hts (lw_V q1274 q1276 qs36 q167 q1277) rfl rfl rfl (by decide +kernel) ⟨(Nat.le_of_ble_eq_true rfl), (Nat.le_of_ble_eq_true rfl)⟩) (c_preV hG hH hS (ci := 0) rfl zb1) rfl rfl hl.1 (by rw [yb1]; rfl) (lv_room (Nat.le_of_ble_eq_true rfl)) dX0_firstFilm_6 ⟨f1, f2⟩) (fun H locs hH hS => ?_)
    refine lv_icmp_ge (tgt := 35) hx hb dX0_firstFilm_9 (by decide) (fun c3 => ?_) (fun c3 => ?_)
    · replace z := it c3 z
      refine lv_iload_n hx hb dX0_firstFilm_35 rfl (lv_at hl 2 rfl) ?_
      exact c_iret' S hr hlk rfl hH hS z dX0_firstFilm_36
    replace z := ie c3 z
    refine c_aload_n hx hb dX0_firstFilm_12 rfl (lv_at hl 0 rfl) ?_
    refine lv_iload_n hx hb dX0_firstFilm_13 rfl (lv_at hl 1 rfl) ?_
    refine lv_iload_n hx hb dX0_firstFilm_14 rfl (lv_at hl 3 rfl) ?_
    replace z := ob z
    obtain ⟨b4, zb4, z⟩ := z
    obtain ⟨yb4, zb4⟩ := rcv_e zb4
    replace z := ob z
    obtain ⟨x5, zx5, z⟩ := z
    refine c_calli hH hS hRM (fun _ _ f1 f2 => va_runV (b := b4) (As := [.int a1, .int a3]) (rest := []) S (metX0_worthOf zx5) (cwV 2 hts (lw_V q1471 q1473 qs46 q167 q1474) rfl rfl rfl (by decide +kernel) ⟨(Nat.le_of_ble_eq_true rfl), (Nat.le_of_ble_eq_true rfl)⟩) (c_preV hG hH hS (ci := 0) rfl zb4) rfl rfl hl.1 (by rw [yb4]; rfl) (lv_room (Nat.le_of_ble_eq_true rfl)) dX0_firstFilm_15 ⟨f1, f2⟩) (fun H locs hH hS => ?_)
    refine c_aload_n hx hb dX0_firstFilm_18 rfl (lv_at hl 0 rfl) ?_
    refine lv_iload_n hx hb dX0_firstFilm_19 rfl (lv_at hl 1 rfl) ?_
    refine lv_iload_n hx hb dX0_firstFilm_20 rfl (lv_at hl 2 rfl) ?_
    replace z := ob z
    obtain ⟨b6, zb6, z⟩ := z
    obtain ⟨yb6, zb6⟩ := rcv_e zb6
    replace z := ob z
    obtain ⟨x7, zx7, z⟩ := z
    refine c_calli hH hS hRM (fun _ _ f1 f2 => va_runV (b := b6) (As := [.int a1, .int a2]) (rest := [.int x5]) S (metX0_worthOf zx7) (cwV 2 hts (lw_V q1471 q1473 qs46 q167 q1474) rfl rfl rfl (by decide +kernel) ⟨(Nat.le_of_ble_eq_true rfl), (Nat.le_of_ble_eq_true rfl)⟩) (c_preV hG hH hS (ci := 0) rfl zb6) rfl rfl hl.1 (by rw [yb6]; rfl) (lv_room (Nat.le_of_ble_eq_true rfl)) dX0_firstFilm_21 ⟨f1, f2⟩) (fun H locs hH hS => ?_)
    refine lv_icmp_le (tgt := 29) hx hb dX0_firstFilm_24 (by decide) (fun c8 => ?_) (fun c8 => ?_)
    · replace z := it c8 z
      exact wX0_firstFilm_29 S hr hlk hnm hG hRM ih a1 a2 a3 z _ _ hH hS _ (lv_sub hl [0, 1, 2, 3] rfl)
    replace z := ie c8 z
    refine lv_iload_n hx hb dX0_firstFilm_27 rfl (lv_at hl 3 rfl) ?_
    refine lv_istore_n (lv' := [(2, .int a3), (0, va_rf (some a0)), (1, .int a1), (3, .int a3)]) hx hb dX0_firstFilm_28 rfl hl (by decide) rfl (fun ls hl => ?_)
    exact wX0_firstFilm_29 S hr hlk hnm hG hRM ih a1 a3 a3 z _ _ hH hS _ (lv_sub hl [1, 2, 0, 3] rfl)
set_option maxHeartbeats 4000000 in
theorem metX0_firstFilm {l : Launch} {A : Nat → Prop} {D : va_G} {ac : Nat → ClassId} {K : KE} {h : HS} {a0 : Nat} {a1 : Int32} {x : Int32} (z : fX0_firstFilm K h a0 a1 = some x) : Met l yX0_firstFilm (ws_ yX0_firstFilm cX0_firstFilm 4 (some .int)) (rmC 6 109 K h) (cP A D ac K h [va_rf (some a0), .int a1]) (cQi A D ac K (h, x)) (K.2.2.1 - h.2.1) (K.2.2.2 - h.2.2) A := by
  refine c_entry (plainFor_of_name (by decide)) (Nat.le_of_ble_eq_true rfl) ?_
  intro p e s m below meth c S hr hlk hnm hG hRM hH hS ls hl
  replace hl : lv_has ls 4 [(0, va_rf (some a0)), (1, .int a1)] := hl
  replace hnm : meth.name = "firstFilm" := hnm
  replace S : CallFix p m c cX0_firstFilm 4 s _ lw_all RX0 := S
  obtain ⟨hx, hb, hml, hown, hts⟩ := id S
  unfold fX0_firstFilm at z
  refine lv_iconst (v := (0 : Int32)) hx hb dX0_firstFilm_0 (by decide) ?_
  refine lv_istore_n (lv' := [(2, .int (0 : Int32)), (0, va_rf (some a0)), (1, .int a1)]) hx hb dX0_firstFilm_1 rfl hl (by decide) rfl (fun ls hl => ?_)
  refine lv_iconst (v := (1 : Int32)) hx hb dX0_firstFilm_2 (by decide) ?_
  refine lv_istore_n (lv' := [(3, .int (1 : Int32)), (2, .int (0 : Int32)), (0, va_rf (some a0)), (1, .int a1)]) hx hb dX0_firstFilm_3 rfl hl (by decide) rfl (fun ls hl => ?_)
  exact wX0_firstFilm_4 S hr hlk hnm hG hRM FU a1 (0 : Int32) (1 : Int32) z _ _ hH hS _ (lv_sub hl [2, 3, 1, 0] rfl)
/-! FourOnOne.together(III)I -/
def fX0_together_94 (K : KE) (h : HS) (a0 : Nat) (k17 : Int32 → Int32 → Int32 → Int32 → Int32 → Option (Int32)) (a1 : Int32) (a2 : Int32) (a3 : Int32) (a4 : Int32) (a5 : Int32) : Option (Int32) :=
  k17 a1 a2 a3 a4 (a5 + (1 : Int32))
def fX0_together_92 (K : KE) (h : HS) (a0 : Nat) (k17 : Int32 → Int32 → Int32 → Int32 → Int32 → Option (Int32)) (a1 : Int32) (a2 : Int32) (a3 : Int32) (a5 : Int32) (t0 : Int32) : Option (Int32) :=
  fX0_together_94 K h a0 k17 a1 a2 a3 t0 a5
def fX0_together_91 (K : KE) (h : HS) (a0 : Nat) (k17 : Int32 → Int32 → Int32 → Int32 → Int32 → Option (Int32)) (a1 : Int32) (a2 : Int32) (a3 : Int32) (a5 : Int32) (t0 : Int32) (t1 : Int32) : Option (Int32) :=
  fX0_together_92 K h a0 k17 a1 a2 a3 a5 (t0 + t1)
def fX0_together_17 (K : KE) (h : HS) (a0 : Nat) : Nat → Int32 → Int32 → Int32 → Int32 → Int32 → Option (Int32)
  | 0, _, _, _, _, _ => none
  | n + 1, a1, a2, a3, a4, a5 =>
    (rcv K h (some a0) 0).bind fun b1 =>
    (fX0_people K h b1).bind fun x2 =>
    if x2 ≤ a5 then
      some a4
    else
    (fX0_has K h a1 a5).bind fun x4 =>
    if x4 = 0 then
      fX0_together_94 K h a0 (fun b1 b2 b3 b4 b5 => fX0_together_17 K h a0 n b1 b2 b3 b4 b5) a1 a2 a3 a4 a5
    else
    (rcv K h (some a0) 0).bind fun b6 =>
    (fX0_worthOf K h b6 a5 a3).bind fun x7 =>
    if a2 = 0 then
      fX0_together_92 K h a0 (fun b1 b2 b3 b4 b5 => fX0_together_17 K h a0 n b1 b2 b3 b4 b5) a1 a2 a3 a5 (a4 + x7)
    else
    if a2 = (1 : Int32) then
      (fJ12_min K h a4 x7).bind fun x13 =>
      fX0_together_92 K h a0 (fun b1 b2 b3 b4 b5 => fX0_together_17 K h a0 n b1 b2 b3 b4 b5) a1 a2 a3 a5 x13
    else
    (rcv K h (some a0) 0).bind fun b10 =>
    (fX0_firstFilm K h b10 a5).bind fun x11 =>
    if x11 = a3 then
      fX0_together_91 K h a0 (fun b1 b2 b3 b4 b5 => fX0_together_17 K h a0 n b1 b2 b3 b4 b5) a1 a2 a3 a5 a4 (1 : Int32)
    else
    fX0_together_91 K h a0 (fun b1 b2 b3 b4 b5 => fX0_together_17 K h a0 n b1 b2 b3 b4 b5) a1 a2 a3 a5 a4 (0 : Int32)
def fX0_together_12 (K : KE) (h : HS) (a0 : Nat) (a1 : Int32) (a2 : Int32) (a3 : Int32) (t0 : Int32) : Option (Int32) :=
  fX0_together_17 K h a0 FU a1 a2 a3 t0 (0 : Int32)
def fX0_together (K : KE) (h : HS) (a0 : Nat) (a1 : Int32) (a2 : Int32) (a3 : Int32) : Option (Int32) :=
  if a2 = (1 : Int32) then
    fX0_together_12 K h a0 a1 a2 a3 (100000000 : Int32)
  else
  fX0_together_12 K h a0 a1 a2 a3 (0 : Int32)
set_option maxHeartbeats 4000000 in
theorem wX0_together_94 {p : Program} {l : Launch} {e : Env} {s : State} {m : MethodId} {args : Array Value} {below : List Frame} {meth : Method} {c : Code} {A : Nat → Prop} {D : va_G} {ac : Nat → ClassId} {K : KE} {h : HS} {a0 : Nat} (S : CallFix p m c cX0_together 7 s args lw_all RX0) (hr : meth.sig.returnType = some .int) (hlk : meth.locks = false) (hnm : meth.name = "together") (hG : GK A D ac K s) (hRM : RM K s (rmC 7 132 K h)) {x : Int32} {k17 : Int32 → Int32 → Int32 → Int32 → Int32 → Option (Int32)} (hk17 : ∀ a1 a2 a3 a4 a5, k17 a1 a2 a3 a4 a5 = some x → cGo p l e (rmC 7 132 K h) s m args below meth c A D ac K (MQ below (cQi A D ac K (h, x)) args s (K.2.2.1 - h.2.1) (K.2.2.2 - h.2.2) A) 7 17 [(0, va_rf (some a0)), (1, .int a1), (2, .int a2), (3, .int a3), (4, .int a4), (5, .int a5)] [] h) : ∀ (a1 : Int32) (a2 : Int32) (a3 : Int32) (a4 : Int32) (a5 : Int32), fX0_together_94 K h a0 k17 a1 a2 a3 a4 a5 = some x → cGo p l e (rmC 7 132 K h) s m args below meth c A D ac K (MQ below (cQi A D ac K (h, x)) args s (K.2.2.1 - h.2.1) (K.2.2.2 - h.2.2) A) 7 94 [(0, va_rf (some a0)), (1, .int a1), (2, .int a2), (3, .int a3), (4, .int a4), (5, .int a5)] [] h := by
  obtain ⟨hx, hb, hml, hown, hts⟩ := id S
  intro a1 a2 a3 a4 a5 z H locs hH hS ls hl
  unfold fX0_together_94 at z
  refine lv_iinc (v := (a5 + (1 : Int32))) (lv' := [(5, .int (a5 + (1 : Int32))), (0, va_rf (some a0)), (1, .int a1), (2, .int a2), (3, .int a3), (4, .int a4)]) hx hb dX0_together_94 hl (k := 5) rfl rfl (by decide) rfl (fun ls hl => ?_)
  refine lv_goto (tgt := 17) hx hb dX0_together_97 (by decide) ?_
  exact hk17 a1 a2 a3 a4 (a5 + (1 : Int32)) z _ _ hH hS _ (lv_sub hl [1, 2, 3, 4, 5, 0] rfl)
set_option maxHeartbeats 4000000 in
theorem wX0_together_92 {p : Program} {l : Launch} {e : Env} {s : State} {m : MethodId} {args : Array Value} {below : List Frame} {meth : Method} {c : Code} {A : Nat → Prop} {D : va_G} {ac : Nat → ClassId} {K : KE} {h : HS} {a0 : Nat} (S : CallFix p m c cX0_together 7 s args lw_all RX0) (hr : meth.sig.returnType = some .int) (hlk : meth.locks = false) (hnm : meth.name = "together") (hG : GK A D ac K s) (hRM : RM K s (rmC 7 132 K h)) {x : Int32} {k17 : Int32 → Int32 → Int32 → Int32 → Int32 → Option (Int32)} (hk17 : ∀ a1 a2 a3 a4 a5, k17 a1 a2 a3 a4 a5 = some x → cGo p l e (rmC 7 132 K h) s m args below meth c A D ac K (MQ below (cQi A D ac K (h, x)) args s (K.2.2.1 - h.2.1) (K.2.2.2 - h.2.2) A) 7 17 [(0, va_rf (some a0)), (1, .int a1), (2, .int a2), (3, .int a3), (4, .int a4), (5, .int a5)] [] h) : ∀ (a1 : Int32) (a2 : Int32) (a3 : Int32) (a5 : Int32) (t0 : Int32), fX0_together_92 K h a0 k17 a1 a2 a3 a5 t0 = some x → cGo p l e (rmC 7 132 K h) s m args below meth c A D ac K (MQ below (cQi A D ac K (h, x)) args s (K.2.2.1 - h.2.1) (K.2.2.2 - h.2.2) A) 7 92 [(0, va_rf (some a0)), (1, .int a1), (2, .int a2), (3, .int a3), (5, .int a5)] [.int t0] h := by
  obtain ⟨hx, hb, hml, hown, hts⟩ := id S
  intro a1 a2 a3 a5 t0 z H locs hH hS ls hl
  unfold fX0_together_92 at z
  refine lv_istore (lv' := [(4, .int t0), (0, va_rf (some a0)), (1, .int a1), (2, .int a2), (3, .int a3), (5, .int a5)]) hx hb dX0_together_92 hl (by decide) rfl (fun ls hl => ?_)
  exact wX0_together_94 S hr hlk hnm hG hRM hk17 a1 a2 a3 t0 a5 z _ _ hH hS _ (lv_sub hl [1, 2, 3, 4, 0, 5] rfl)
set_option maxHeartbeats 4000000 in
theorem wX0_together_91 {p : Program} {l : Launch} {e : Env} {s : State} {m : MethodId} {args : Array Value} {below : List Frame} {meth : Method} {c : Code} {A : Nat → Prop} {D : va_G} {ac : Nat → ClassId} {K : KE} {h : HS} {a0 : Nat} (S : CallFix p m c cX0_together 7 s args lw_all RX0) (hr : meth.sig.returnType = some .int) (hlk : meth.locks = false) (hnm : meth.name = "together") (hG : GK A D ac K s) (hRM : RM K s (rmC 7 132 K h)) {x : Int32} {k17 : Int32 → Int32 → Int32 → Int32 → Int32 → Option (Int32)} (hk17 : ∀ a1 a2 a3 a4 a5, k17 a1 a2 a3 a4 a5 = some x → cGo p l e (rmC 7 132 K h) s m args below meth c A D ac K (MQ below (cQi A D ac K (h, x)) args s (K.2.2.1 - h.2.1) (K.2.2.2 - h.2.2) A) 7 17 [(0, va_rf (some a0)), (1, .int a1), (2, .int a2), (3, .int a3), (4, .int a4), (5, .int a5)] [] h) : ∀ (a1 : Int32) (a2 : Int32) (a3 : Int32) (a5 : Int32) (t0 : Int32) (t1 : Int32), fX0_together_91 K h a0 k17 a1 a2 a3 a5 t0 t1 = some x → cGo p l e (rmC 7 132 K h) s m args below meth c A D ac K (MQ below (cQi A D ac K (h, x)) args s (K.2.2.1 - h.2.1) (K.2.2.2 - h.2.2) A) 7 91 [(0, va_rf (some a0)), (1, .int a1), (2, .int a2), (3, .int a3), (5, .int a5)] [.int t1, .int t0] h := by
  obtain ⟨hx, hb, hml, hown, hts⟩ := id S
  intro a1 a2 a3 a5 t0 t1 z H locs hH hS ls hl
  unfold fX0_together_91 at z
  refine lv_iadd hx hb dX0_together_91 ?_
  exact wX0_together_92 S hr hlk hnm hG hRM hk17 a1 a2 a3 a5 (t0 + t1) z _ _ hH hS _ (lv_sub hl [0, 1, 2, 3, 4] rfl)
set_option maxHeartbeats 4000000 in
theorem wX0_together_17 {p : Program} {l : Launch} {e : Env} {s : State} {m : MethodId} {args : Array Value} {below : List Frame} {meth : Method} {c : Code} {A : Nat → Prop} {D : va_G} {ac : Nat → ClassId} {K : KE} {h : HS} {a0 : Nat} (S : CallFix p m c cX0_together 7 s args lw_all RX0) (hr : meth.sig.returnType = some .int) (hlk : meth.locks = false) (hnm : meth.name = "together") (hG : GK A D ac K s) (hRM : RM K s (rmC 7 132 K h)) {x : Int32} : ∀ (n : Nat) (a1 : Int32) (a2 : Int32) (a3 : Int32) (a4 : Int32) (a5 : Int32), fX0_together_17 K h a0 n a1 a2 a3 a4 a5 = some x → cGo p l e (rmC 7 132 K h) s m args below meth c A D ac K (MQ below (cQi A D ac K (h, x)) args s (K.2.2.1 - h.2.1) (K.2.2.2 - h.2.2) A) 7 17 [(0, va_rf (some a0)), (1, .int a1), (2, .int a2), (3, .int a3), (4, .int a4), (5, .int a5)] [] h := by
  obtain ⟨hx, hb, hml, hown, hts⟩ := id S
  intro n
  induction n with
  | zero => intro a1 a2 a3 a4 a5 z; cases z
  | succ n ih =>
    intro a1 a2 a3 a4 a5 z H locs hH hS ls hl
    rw [fX0_together_17] at z
    refine lv_iload hx hb dX0_together_17 (lv_at hl 5 rfl) ?_
    refine c_aload_n hx hb dX0_together_19 rfl (lv_at hl 0 rfl) ?_
    replace z := ob z
    obtain ⟨b1, zb1, z⟩ := z
    obtain ⟨yb1, zb1⟩ := rcv_e zb1
    replace z := ob z
    obtain ⟨x2, zx2, z⟩ := z
    refine c_calli hH hS hRM (fun _ _ f1 f2 => va_runV (b := b1) (As := []) (rest := [.int a5]) S (metX0_people zx2) (cwV 0 hts (lw_V q1278 q1280 qs37 q167 q1281) rfl rfl rfl (by decide +kernel) ⟨(Nat.le_of_ble_eq_true rfl), (Nat.le_of_ble_eq_true rfl)⟩) (c_preV hG hH hS (ci := 0) rfl zb1) rfl rfl hl.1 (by rw [yb1]; rfl) (lv_room (Nat.le_of_ble_eq_true rfl)) dX0_together_20 ⟨f1, f2⟩) (fun H locs hH hS => ?_)
    refine lv_icmp_ge (tgt := 100) hx hb dX0_together_23 (by decide) (fun c3 => ?_) (fun c3 => ?_)
    · replace z := it c3 z
      refine lv_iload hx hb dX0_together_100 (lv_at hl 4 rfl) ?_
      exact c_iret' S hr hlk rfl hH hS z dX0_together_102
    replace z := ie c3 z
    refine lv_iload_n hx hb dX0_together_26 rfl (lv_at hl 1 rfl) ?_
    refine lv_iload hx hb dX0_together_27 (lv_at hl 5 rfl) ?_
    replace z := ob z
    obtain ⟨x4, zx4, z⟩ := z
    refine c_calli hH hS hRM (fun _ _ f1 f2 => va_runS (As := [.int a1, .int a5]) (rest := []) S (metX0_has zx4) (va_cwS 2 hts (lw_S q1349 q975 q167 q976) rfl rfl rfl (by decide +kernel) ⟨(Nat.le_of_ble_eq_true rfl), (Nat.le_of_ble_eq_true rfl)⟩) (c_pre hG hH hS) rfl rfl hl.1 rfl (lv_room (Nat.le_of_ble_eq_true rfl)) dX0_together_29 ⟨f1, f2⟩) (fun H locs hH hS => ?_)
    refine lv_if_ne (tgt := 38) hx hb dX0_together_32 (by decide) (fun c5 => ?_) (fun c5 => ?_)
    rotate_left 1
    · replace z := it c5 z
      refine lv_goto (tgt := 94) hx hb dX0_together_35 (by decide) ?_
      exact wX0_together_94 S hr hlk hnm hG hRM ih a1 a2 a3 a4 a5 z _ _ hH hS _ (lv_sub hl [0, 1, 2, 3, 4, 5] rfl)
    replace z := ie c5 z
    refine c_aload_n hx hb dX0_together_38 rfl (lv_at hl 0 rfl) ?_
    refine lv_iload hx hb dX0_together_39 (lv_at hl 5 rfl) ?_
    refine lv_iload_n hx hb dX0_together_41 rfl (lv_at hl 3 rfl) ?_
    replace z := ob z
    obtain ⟨b6, zb6, z⟩ := z
    obtain ⟨yb6, zb6⟩ := rcv_e zb6
    replace z := ob z
    obtain ⟨x7, zx7, z⟩ := z
    refine c_calli hH hS hRM (fun _ _ f1 f2 => va_runV (b := b6) (As := [.int a5, .int a3]) (rest := []) S (metX0_worthOf zx7) (cwV 2 hts (lw_V q1471 q1473 qs46 q167 q1474) rfl rfl rfl (by decide +kernel) ⟨(Nat.le_of_ble_eq_true rfl), (Nat.le_of_ble_eq_true rfl)⟩) (c_preV hG hH hS (ci := 0) rfl zb6) rfl rfl hl.1 (by rw [yb6]; rfl) (lv_room (Nat.le_of_ble_eq_true rfl)) dX0_together_42 ⟨f1, f2⟩) (fun H locs hH hS => ?_)
    refine lv_istore (lv' := [(6, .int x7), (0, va_rf (some a0)), (1, .int a1), (2, .int a2), (3, .int a3), (4, .int a4), (5, .int a5)]) hx hb dX0_together_45 hl (by decide) rfl (fun ls hl => ?_)
    refine lv_iload_n hx hb dX0_together_47 rfl (lv_at hl 3 rfl) ?_
    refine lv_if_ne (tgt := 59) hx hb dX0_together_48 (by decide) (fun c8 => ?_) (fun c8 => ?_)
    rotate_left 1
    · replace z := it c8 z
      refine lv_iload hx hb dX0_together_51 (lv_at hl 5 rfl) ?_
      refine lv_iload hx hb dX0_together_53 (lv_at hl 0 rfl) ?_
      refine lv_iadd hx hb dX0_together_55 ?_
      refine lv_goto (tgt := 92) hx hb dX0_together_56 (by decide) ?_
      exact wX0_together_92 S hr hlk hnm hG hRM ih a1 a2 a3 a5 (a4 + x7) z _ _ hH hS _ (lv_sub hl [1, 2, 3, 4, 6] rfl)
    replace z := ie c8 z
    refine lv_iload_n hx hb dX0_together_59 rfl (lv_at hl 3 rfl) ?_
    refine lv_iconst (v := (1 : Int32)) hx hb dX0_together_60 (by decide) ?_
    refine lv_icmp_ne (tgt := 74) hx hb dX0_together_61 (by decide) (fun c9 => ?_) (fun c9 => ?_)
    rotate_left 1
    · replace z := it c9 z
      refine lv_iload hx hb dX0_together_64 (lv_at hl 5 rfl) ?_
      refine lv_iload hx hb dX0_together_66 (lv_at hl 0 rfl) ?_
      replace z := ob z
      obtain ⟨x13, zx13, z⟩ := z
      refine c_calli hH hS hRM (fun _ _ f1 f2 => va_runS (As := [.int a4, .int x7]) (rest := []) S (metJ12_min zx13) (va_cwS 2 hts (lw_S q1575 q898 q187 q899) rfl rfl rfl (by decide +kernel) ⟨(Nat.le_of_ble_eq_true rfl), (Nat.le_of_ble_eq_true rfl)⟩) (c_pre hG hH hS) rfl rfl hl.1 rfl (lv_room (Nat.le_of_ble_eq_true rfl)) dX0_together_68 ⟨f1, f2⟩) (fun H locs hH hS => ?_)
      refine lv_goto (tgt := 92) hx hb dX0_together_71 (by decide) ?_
      exact wX0_together_92 S hr hlk hnm hG hRM ih a1 a2 a3 a5 x13 z _ _ hH hS _ (lv_sub hl [1, 2, 3, 4, 6] rfl)
    replace z := ie c9 z
    refine lv_iload hx hb dX0_together_74 (lv_at hl 5 rfl) ?_
    refine c_aload_n hx hb dX0_together_76 rfl (lv_at hl 1 rfl) ?_
    refine lv_iload hx hb dX0_together_77 (lv_at hl 6 rfl) ?_
    replace z := ob z
    obtain ⟨b10, zb10, z⟩ := z
    obtain ⟨yb10, zb10⟩ := rcv_e zb10
    replace z := ob z
    obtain ⟨x11, zx11, z⟩ := z
    refine c_calli hH hS hRM (fun _ _ f1 f2 => va_runV (b := b10) (As := [.int a5]) (rest := [.int a4]) S (metX0_firstFilm zx11) (cwV 1 hts (lw_V q1576 q1578 qs55 q167 q1579) rfl rfl rfl (by decide +kernel) ⟨(Nat.le_of_ble_eq_true rfl), (Nat.le_of_ble_eq_true rfl)⟩) (c_preV hG hH hS (ci := 0) rfl zb10) rfl rfl hl.1 (by rw [yb10]; rfl) (lv_room (Nat.le_of_ble_eq_true rfl)) dX0_together_79 ⟨f1, f2⟩) (fun H locs hH hS => ?_)
    refine lv_iload_n hx hb dX0_together_82 rfl (lv_at hl 4 rfl) ?_
    refine lv_icmp_ne (tgt := 90) hx hb dX0_together_83 (by decide) (fun c12 => ?_) (fun c12 => ?_)
    · replace z := ie c12 z
      refine lv_iconst (v := (0 : Int32)) hx hb dX0_together_90 (by decide) ?_
      exact wX0_together_91 S hr hlk hnm hG hRM ih a1 a2 a3 a5 a4 (0 : Int32) z _ _ hH hS _ (lv_sub hl [1, 2, 3, 4, 6] rfl)
    replace z := it c12 z
    refine lv_iconst (v := (1 : Int32)) hx hb dX0_together_86 (by decide) ?_
    refine lv_goto (tgt := 91) hx hb dX0_together_87 (by decide) ?_
    exact wX0_together_91 S hr hlk hnm hG hRM ih a1 a2 a3 a5 a4 (1 : Int32) z _ _ hH hS _ (lv_sub hl [1, 2, 3, 4, 6] rfl)
set_option maxHeartbeats 4000000 in
theorem wX0_together_12 {p : Program} {l : Launch} {e : Env} {s : State} {m : MethodId} {args : Array Value} {below : List Frame} {meth : Method} {c : Code} {A : Nat → Prop} {D : va_G} {ac : Nat → ClassId} {K : KE} {h : HS} {a0 : Nat} (S : CallFix p m c cX0_together 7 s args lw_all RX0) (hr : meth.sig.returnType = some .int) (hlk : meth.locks = false) (hnm : meth.name = "together") (hG : GK A D ac K s) (hRM : RM K s (rmC 7 132 K h)) {x : Int32} : ∀ (a1 : Int32) (a2 : Int32) (a3 : Int32) (t0 : Int32), fX0_together_12 K h a0 a1 a2 a3 t0 = some x → cGo p l e (rmC 7 132 K h) s m args below meth c A D ac K (MQ below (cQi A D ac K (h, x)) args s (K.2.2.1 - h.2.1) (K.2.2.2 - h.2.2) A) 7 12 [(0, va_rf (some a0)), (1, .int a1), (2, .int a2), (3, .int a3)] [.int t0] h := by
  obtain ⟨hx, hb, hml, hown, hts⟩ := id S
  intro a1 a2 a3 t0 z H locs hH hS ls hl
  unfold fX0_together_12 at z
  refine lv_istore (lv' := [(4, .int t0), (0, va_rf (some a0)), (1, .int a1), (2, .int a2), (3, .int a3)]) hx hb dX0_together_12 hl (by decide) rfl (fun ls hl => ?_)
  refine lv_iconst (v := (0 : Int32)) hx hb dX0_together_14 (by decide) ?_
  refine lv_istore (lv' := [(5, .int (0 : Int32)), (4, .int t0), (0, va_rf (some a0)), (1, .int a1), (2, .int a2), (3, .int a3)]) hx hb dX0_together_15 hl (by decide) rfl (fun ls hl => ?_)
  exact wX0_together_17 S hr hlk hnm hG hRM FU a1 a2 a3 t0 (0 : Int32) z _ _ hH hS _ (lv_sub hl [2, 3, 4, 5, 1, 0] rfl)
set_option maxHeartbeats 4000000 in
theorem metX0_together {l : Launch} {A : Nat → Prop} {D : va_G} {ac : Nat → ClassId} {K : KE} {h : HS} {a0 : Nat} {a1 : Int32} {a2 : Int32} {a3 : Int32} {x : Int32} (z : fX0_together K h a0 a1 a2 a3 = some x) : Met l yX0_together (ws_ yX0_together cX0_together 7 (some .int)) (rmC 7 132 K h) (cP A D ac K h [va_rf (some a0), .int a1, .int a2, .int a3]) (cQi A D ac K (h, x)) (K.2.2.1 - h.2.1) (K.2.2.2 - h.2.2) A := by
  refine c_entry (plainFor_of_name (by decide)) (Nat.le_of_ble_eq_true rfl) ?_
  intro p e s m below meth c S hr hlk hnm hG hRM hH hS ls hl
  replace hl : lv_has ls 7 [(0, va_rf (some a0)), (1, .int a1), (2, .int a2), (3, .int a3)] := hl
  replace hnm : meth.name = "together" := hnm
  replace S : CallFix p m c cX0_together 7 s _ lw_all RX0 := S
  obtain ⟨hx, hb, hml, hown, hts⟩ := id S
  unfold fX0_together at z
  refine lv_iload_n hx hb dX0_together_0 rfl (lv_at hl 2 rfl) ?_
  refine lv_iconst (v := (1 : Int32)) hx hb dX0_together_1 (by decide) ?_
  refine lv_icmp_ne (tgt := 11) hx hb dX0_together_2 (by decide) (fun c1 => ?_) (fun c1 => ?_)
  · replace z := ie c1 z
    refine lv_iconst (v := (0 : Int32)) hx hb dX0_together_11 (by decide) ?_
    exact wX0_together_12 S hr hlk hnm hG hRM a1 a2 a3 (0 : Int32) z _ _ hH hS _ (lv_sub hl [0, 1, 2, 3] rfl)
  replace z := it c1 z
  refine lv_ldcw hx hb hown (hts _ q1574) dX0_together_5 ?_
  refine lv_goto (tgt := 12) hx hb dX0_together_8 (by decide) ?_
  exact wX0_together_12 S hr hlk hnm hG hRM a1 a2 a3 (100000000 : Int32) z _ _ hH hS _ (lv_sub hl [0, 1, 2, 3] rfl)
/-! FourOnOne.sofa(II)I -/
def fX0_sofa_66 (K : KE) (h : HS) (a0 : Nat) (k31 : Int32 → Int32 → Int32 → Int32 → Option (Int32)) (a1 : Int32) (a2 : Int32) (a3 : Int32) (a4 : Int32) : Option (Int32) :=
  k31 a1 a2 a3 (a4 + (1 : Int32))
def fX0_sofa_63 (K : KE) (h : HS) (a0 : Nat) (k31 : Int32 → Int32 → Int32 → Int32 → Option (Int32)) (a1 : Int32) (a2 : Int32) (a4 : Int32) : Option (Int32) :=
  fX0_sofa_66 K h a0 k31 a1 a2 a4 a4
def fX0_sofa_31 (K : KE) (h : HS) (a0 : Nat) : Nat → Int32 → Int32 → Int32 → Int32 → Option (Int32)
  | 0, _, _, _, _ => none
  | n + 1, a1, a2, a3, a4 =>
    (rcv K h (some a0) 0).bind fun b1 =>
    (fX0_films K h b1).bind fun x2 =>
    if x2 ≤ a4 then
      some a3
    else
    if a3 = (-1 : Int32) then
      fX0_sofa_63 K h a0 (fun b1 b2 b3 b4 => fX0_sofa_31 K h a0 n b1 b2 b3 b4) a1 a2 a4
    else
    (rcv K h (some a0) 0).bind fun b5 =>
    (fX0_together K h b5 a1 a2 a4).bind fun x6 =>
    (rcv K h (some a0) 0).bind fun b7 =>
    (fX0_together K h b7 a1 a2 a3).bind fun x8 =>
    if x6 ≤ x8 then
      fX0_sofa_66 K h a0 (fun b1 b2 b3 b4 => fX0_sofa_31 K h a0 n b1 b2 b3 b4) a1 a2 a3 a4
    else
    fX0_sofa_63 K h a0 (fun b1 b2 b3 b4 => fX0_sofa_31 K h a0 n b1 b2 b3 b4) a1 a2 a4
def fX0_sofa (K : KE) (h : HS) (a0 : Nat) (a1 : Int32) (a2 : Int32) : Option (Int32) :=
  if a1 < (1 : Int32) then
    some (-1 : Int32)
  else
  (rcv K h (some a0) 0).bind fun b2 =>
  (fX0_people K h b2).bind fun x3 =>
  if ((1 : Int32) <<< (x3 &&& 31)) ≤ a1 then
    some (-1 : Int32)
  else
  (fX0_is K h a2 (0 : Int32) (2 : Int32)).bind fun x5 =>
  if x5 = 0 then
    some (-1 : Int32)
  else
  fX0_sofa_31 K h a0 FU a1 a2 (-1 : Int32) (0 : Int32)
set_option maxHeartbeats 4000000 in
theorem wX0_sofa_66 {p : Program} {l : Launch} {e : Env} {s : State} {m : MethodId} {args : Array Value} {below : List Frame} {meth : Method} {c : Code} {A : Nat → Prop} {D : va_G} {ac : Nat → ClassId} {K : KE} {h : HS} {a0 : Nat} (S : CallFix p m c cX0_sofa 5 s args lw_all RX0) (hr : meth.sig.returnType = some .int) (hlk : meth.locks = false) (hnm : meth.name = "sofa") (hG : GK A D ac K s) (hRM : RM K s (rmC 8 158 K h)) {x : Int32} {k31 : Int32 → Int32 → Int32 → Int32 → Option (Int32)} (hk31 : ∀ a1 a2 a3 a4, k31 a1 a2 a3 a4 = some x → cGo p l e (rmC 8 158 K h) s m args below meth c A D ac K (MQ below (cQi A D ac K (h, x)) args s (K.2.2.1 - h.2.1) (K.2.2.2 - h.2.2) A) 5 31 [(0, va_rf (some a0)), (1, .int a1), (2, .int a2), (3, .int a3), (4, .int a4)] [] h) : ∀ (a1 : Int32) (a2 : Int32) (a3 : Int32) (a4 : Int32), fX0_sofa_66 K h a0 k31 a1 a2 a3 a4 = some x → cGo p l e (rmC 8 158 K h) s m args below meth c A D ac K (MQ below (cQi A D ac K (h, x)) args s (K.2.2.1 - h.2.1) (K.2.2.2 - h.2.2) A) 5 66 [(0, va_rf (some a0)), (1, .int a1), (2, .int a2), (3, .int a3), (4, .int a4)] [] h := by
  obtain ⟨hx, hb, hml, hown, hts⟩ := id S
  intro a1 a2 a3 a4 z H locs hH hS ls hl
  unfold fX0_sofa_66 at z
  refine lv_iinc (v := (a4 + (1 : Int32))) (lv' := [(4, .int (a4 + (1 : Int32))), (0, va_rf (some a0)), (1, .int a1), (2, .int a2), (3, .int a3)]) hx hb dX0_sofa_66 hl (k := 4) rfl rfl (by decide) rfl (fun ls hl => ?_)
  refine lv_goto (tgt := 31) hx hb dX0_sofa_69 (by decide) ?_
  exact hk31 a1 a2 a3 (a4 + (1 : Int32)) z _ _ hH hS _ (lv_sub hl [1, 2, 3, 4, 0] rfl)
set_option maxHeartbeats 4000000 in
theorem wX0_sofa_63 {p : Program} {l : Launch} {e : Env} {s : State} {m : MethodId} {args : Array Value} {below : List Frame} {meth : Method} {c : Code} {A : Nat → Prop} {D : va_G} {ac : Nat → ClassId} {K : KE} {h : HS} {a0 : Nat} (S : CallFix p m c cX0_sofa 5 s args lw_all RX0) (hr : meth.sig.returnType = some .int) (hlk : meth.locks = false) (hnm : meth.name = "sofa") (hG : GK A D ac K s) (hRM : RM K s (rmC 8 158 K h)) {x : Int32} {k31 : Int32 → Int32 → Int32 → Int32 → Option (Int32)} (hk31 : ∀ a1 a2 a3 a4, k31 a1 a2 a3 a4 = some x → cGo p l e (rmC 8 158 K h) s m args below meth c A D ac K (MQ below (cQi A D ac K (h, x)) args s (K.2.2.1 - h.2.1) (K.2.2.2 - h.2.2) A) 5 31 [(0, va_rf (some a0)), (1, .int a1), (2, .int a2), (3, .int a3), (4, .int a4)] [] h) : ∀ (a1 : Int32) (a2 : Int32) (a4 : Int32), fX0_sofa_63 K h a0 k31 a1 a2 a4 = some x → cGo p l e (rmC 8 158 K h) s m args below meth c A D ac K (MQ below (cQi A D ac K (h, x)) args s (K.2.2.1 - h.2.1) (K.2.2.2 - h.2.2) A) 5 63 [(0, va_rf (some a0)), (1, .int a1), (2, .int a2), (4, .int a4)] [] h := by
  obtain ⟨hx, hb, hml, hown, hts⟩ := id S
  intro a1 a2 a4 z H locs hH hS ls hl
  unfold fX0_sofa_63 at z
  refine lv_iload hx hb dX0_sofa_63 (lv_at hl 3 rfl) ?_
  refine lv_istore_n (lv' := [(3, .int a4), (0, va_rf (some a0)), (1, .int a1), (2, .int a2), (4, .int a4)]) hx hb dX0_sofa_65 rfl hl (by decide) rfl (fun ls hl => ?_)
  exact wX0_sofa_66 S hr hlk hnm hG hRM hk31 a1 a2 a4 a4 z _ _ hH hS _ (lv_sub hl [1, 2, 3, 0, 4] rfl)
set_option maxHeartbeats 4000000 in
theorem wX0_sofa_31 {p : Program} {l : Launch} {e : Env} {s : State} {m : MethodId} {args : Array Value} {below : List Frame} {meth : Method} {c : Code} {A : Nat → Prop} {D : va_G} {ac : Nat → ClassId} {K : KE} {h : HS} {a0 : Nat} (S : CallFix p m c cX0_sofa 5 s args lw_all RX0) (hr : meth.sig.returnType = some .int) (hlk : meth.locks = false) (hnm : meth.name = "sofa") (hG : GK A D ac K s) (hRM : RM K s (rmC 8 158 K h)) {x : Int32} : ∀ (n : Nat) (a1 : Int32) (a2 : Int32) (a3 : Int32) (a4 : Int32), fX0_sofa_31 K h a0 n a1 a2 a3 a4 = some x → cGo p l e (rmC 8 158 K h) s m args below meth c A D ac K (MQ below (cQi A D ac K (h, x)) args s (K.2.2.1 - h.2.1) (K.2.2.2 - h.2.2) A) 5 31 [(0, va_rf (some a0)), (1, .int a1), (2, .int a2), (3, .int a3), (4, .int a4)] [] h := by
  obtain ⟨hx, hb, hml, hown, hts⟩ := id S
  intro n
  induction n with
  | zero => intro a1 a2 a3 a4 z; cases z
  | succ n ih =>
    intro a1 a2 a3 a4 z H locs hH hS ls hl
    rw [fX0_sofa_31] at z
    refine lv_iload hx hb dX0_sofa_31 (lv_at hl 4 rfl) ?_
    refine c_aload_n hx hb dX0_sofa_33 rfl (lv_at hl 0 rfl) ?_
    replace z := ob z
    obtain ⟨b1, zb1, z⟩ := z
    obtain ⟨yb1, zb1⟩ := rcv_e zb1
    replace z := ob z
    obtain ⟨x2, zx2, z⟩ := z
    refine c_calli hH hS hRM (fun _ _ f1 f2 => va_runV (b := b1) (As := []) (rest := [.int a4]) S (metX0_films zx2) (cwV 0 hts (lw_V q1274 q1276 qs36 q167 q1277) rfl rfl rfl (by decide +kernel) ⟨(Nat.le_of_ble_eq_true rfl), (Nat.le_of_ble_eq_true rfl)⟩) (c_preV hG hH hS (ci := 0) rfl zb1) rfl rfl hl.1 (by rw [yb1]; rfl) (lv_room (Nat.le_of_ble_eq_true rfl)) dX0_sofa_34 ⟨f1, f2⟩) (fun H locs hH hS => ?_)
    refine lv_icmp_ge (tgt := 72) hx hb dX0_sofa_37 (by decide) (fun c3 => ?_) (fun c3 => ?_)
    · replace z := it c3 z
      refine lv_iload_n hx hb dX0_sofa_72 rfl (lv_at hl 3 rfl) ?_
      exact c_iret' S hr hlk rfl hH hS z dX0_sofa_73
    replace z := ie c3 z
    refine lv_iload_n hx hb dX0_sofa_40 rfl (lv_at hl 3 rfl) ?_
    refine lv_iconst (v := (-1 : Int32)) hx hb dX0_sofa_41 (by decide) ?_
    refine lv_icmp_eq (tgt := 63) hx hb dX0_sofa_42 (by decide) (fun c4 => ?_) (fun c4 => ?_)
    · replace z := it c4 z
      exact wX0_sofa_63 S hr hlk hnm hG hRM ih a1 a2 a4 z _ _ hH hS _ (lv_sub hl [0, 1, 2, 4] rfl)
    replace z := ie c4 z
    refine c_aload_n hx hb dX0_sofa_45 rfl (lv_at hl 0 rfl) ?_
    refine lv_iload_n hx hb dX0_sofa_46 rfl (lv_at hl 1 rfl) ?_
    refine lv_iload_n hx hb dX0_sofa_47 rfl (lv_at hl 2 rfl) ?_
    refine lv_iload hx hb dX0_sofa_48 (lv_at hl 4 rfl) ?_
    replace z := ob z
    obtain ⟨b5, zb5, z⟩ := z
    obtain ⟨yb5, zb5⟩ := rcv_e zb5
    replace z := ob z
    obtain ⟨x6, zx6, z⟩ := z
    refine c_calli hH hS hRM (fun _ _ f1 f2 => va_runV (b := b5) (As := [.int a1, .int a2, .int a4]) (rest := []) S (metX0_together zx6) (cwV 3 hts (lw_V q1570 q1572 qs54 q167 q1573) rfl rfl rfl (by decide +kernel) ⟨(Nat.le_of_ble_eq_true rfl), (Nat.le_of_ble_eq_true rfl)⟩) (c_preV hG hH hS (ci := 0) rfl zb5) rfl rfl hl.1 (by rw [yb5]; rfl) (lv_room (Nat.le_of_ble_eq_true rfl)) dX0_sofa_50 ⟨f1, f2⟩) (fun H locs hH hS => ?_)
    refine c_aload_n hx hb dX0_sofa_53 rfl (lv_at hl 0 rfl) ?_
    refine lv_iload_n hx hb dX0_sofa_54 rfl (lv_at hl 1 rfl) ?_
    refine lv_iload_n hx hb dX0_sofa_55 rfl (lv_at hl 2 rfl) ?_
    refine lv_iload_n hx hb dX0_sofa_56 rfl (lv_at hl 3 rfl) ?_
    replace z := ob z
    obtain ⟨b7, zb7, z⟩ := z
    obtain ⟨yb7, zb7⟩ := rcv_e zb7
    replace z := ob z
    obtain ⟨x8, zx8, z⟩ := z
    refine c_calli hH hS hRM (fun _ _ f1 f2 => va_runV (b := b7) (As := [.int a1, .int a2, .int a3]) (rest := [.int x6]) S (metX0_together zx8) (cwV 3 hts (lw_V q1570 q1572 qs54 q167 q1573) rfl rfl rfl (by decide +kernel) ⟨(Nat.le_of_ble_eq_true rfl), (Nat.le_of_ble_eq_true rfl)⟩) (c_preV hG hH hS (ci := 0) rfl zb7) rfl rfl hl.1 (by rw [yb7]; rfl) (lv_room (Nat.le_of_ble_eq_true rfl)) dX0_sofa_57 ⟨f1, f2⟩) (fun H locs hH hS => ?_)
    refine lv_icmp_le (tgt := 66) hx hb dX0_sofa_60 (by decide) (fun c9 => ?_) (fun c9 => ?_)
    · replace z := it c9 z
      exact wX0_sofa_66 S hr hlk hnm hG hRM ih a1 a2 a3 a4 z _ _ hH hS _ (lv_sub hl [0, 1, 2, 3, 4] rfl)
    replace z := ie c9 z
    exact wX0_sofa_63 S hr hlk hnm hG hRM ih a1 a2 a4 z _ _ hH hS _ (lv_sub hl [0, 1, 2, 4] rfl)
set_option maxHeartbeats 4000000 in
theorem metX0_sofa {l : Launch} {A : Nat → Prop} {D : va_G} {ac : Nat → ClassId} {K : KE} {h : HS} {a0 : Nat} {a1 : Int32} {a2 : Int32} {x : Int32} (z : fX0_sofa K h a0 a1 a2 = some x) : Met l yX0_sofa (ws_ yX0_sofa cX0_sofa 5 (some .int)) (rmC 8 158 K h) (cP A D ac K h [va_rf (some a0), .int a1, .int a2]) (cQi A D ac K (h, x)) (K.2.2.1 - h.2.1) (K.2.2.2 - h.2.2) A := by
  refine c_entry (plainFor_of_name (by decide)) (Nat.le_of_ble_eq_true rfl) ?_
  intro p e s m below meth c S hr hlk hnm hG hRM hH hS ls hl
  replace hl : lv_has ls 5 [(0, va_rf (some a0)), (1, .int a1), (2, .int a2)] := hl
  replace hnm : meth.name = "sofa" := hnm
  replace S : CallFix p m c cX0_sofa 5 s _ lw_all RX0 := S
  obtain ⟨hx, hb, hml, hown, hts⟩ := id S
  unfold fX0_sofa at z
  refine lv_iload_n hx hb dX0_sofa_0 rfl (lv_at hl 1 rfl) ?_
  refine lv_iconst (v := (1 : Int32)) hx hb dX0_sofa_1 (by decide) ?_
  refine lv_icmp_lt (tgt := 24) hx hb dX0_sofa_2 (by decide) (fun c1 => ?_) (fun c1 => ?_)
  · replace z := it c1 z
    refine lv_iconst (v := (-1 : Int32)) hx hb dX0_sofa_24 (by decide) ?_
    exact c_iret' S hr hlk rfl hH hS z dX0_sofa_25
  replace z := ie c1 z
  refine lv_iload_n hx hb dX0_sofa_5 rfl (lv_at hl 1 rfl) ?_
  refine lv_iconst (v := (1 : Int32)) hx hb dX0_sofa_6 (by decide) ?_
  refine c_aload_n hx hb dX0_sofa_7 rfl (lv_at hl 0 rfl) ?_
  replace z := ob z
  obtain ⟨b2, zb2, z⟩ := z
  obtain ⟨yb2, zb2⟩ := rcv_e zb2
  replace z := ob z
  obtain ⟨x3, zx3, z⟩ := z
  refine c_calli hH hS hRM (fun _ _ f1 f2 => va_runV (b := b2) (As := []) (rest := [.int (1 : Int32), .int a1]) S (metX0_people zx3) (cwV 0 hts (lw_V q1278 q1280 qs37 q167 q1281) rfl rfl rfl (by decide +kernel) ⟨(Nat.le_of_ble_eq_true rfl), (Nat.le_of_ble_eq_true rfl)⟩) (c_preV hG hH hS (ci := 0) rfl zb2) rfl rfl hl.1 (by rw [yb2]; rfl) (lv_room (Nat.le_of_ble_eq_true rfl)) dX0_sofa_8 ⟨f1, f2⟩) (fun H locs hH hS => ?_)
  refine lv_ishl hx hb dX0_sofa_11 ?_
  refine lv_icmp_ge (tgt := 24) hx hb dX0_sofa_12 (by decide) (fun c4 => ?_) (fun c4 => ?_)
  · replace z := it c4 z
    refine lv_iconst (v := (-1 : Int32)) hx hb dX0_sofa_24 (by decide) ?_
    exact c_iret' S hr hlk rfl hH hS z dX0_sofa_25
  replace z := ie c4 z
  refine lv_iload_n hx hb dX0_sofa_15 rfl (lv_at hl 2 rfl) ?_
  refine lv_iconst (v := (0 : Int32)) hx hb dX0_sofa_16 (by decide) ?_
  refine lv_iconst (v := (2 : Int32)) hx hb dX0_sofa_17 (by decide) ?_
  replace z := ob z
  obtain ⟨x5, zx5, z⟩ := z
  refine c_calli hH hS hRM (fun _ _ f1 f2 => va_runS (As := [.int a2, .int (0 : Int32), .int (2 : Int32)]) (rest := []) S (metX0_is zx5) (va_cwS 3 hts (lw_S q1296 q924 q167 q925) rfl rfl rfl (by decide +kernel) ⟨(Nat.le_of_ble_eq_true rfl), (Nat.le_of_ble_eq_true rfl)⟩) (c_pre hG hH hS) rfl rfl hl.1 rfl (lv_room (Nat.le_of_ble_eq_true rfl)) dX0_sofa_18 ⟨f1, f2⟩) (fun H locs hH hS => ?_)
  refine lv_if_ne (tgt := 26) hx hb dX0_sofa_21 (by decide) (fun c6 => ?_) (fun c6 => ?_)
  rotate_left 1
  · replace z := it c6 z
    refine lv_iconst (v := (-1 : Int32)) hx hb dX0_sofa_24 (by decide) ?_
    exact c_iret' S hr hlk rfl hH hS z dX0_sofa_25
  replace z := ie c6 z
  refine lv_iconst (v := (-1 : Int32)) hx hb dX0_sofa_26 (by decide) ?_
  refine lv_istore_n (lv' := [(3, .int (-1 : Int32)), (0, va_rf (some a0)), (1, .int a1), (2, .int a2)]) hx hb dX0_sofa_27 rfl hl (by decide) rfl (fun ls hl => ?_)
  refine lv_iconst (v := (0 : Int32)) hx hb dX0_sofa_28 (by decide) ?_
  refine lv_istore (lv' := [(4, .int (0 : Int32)), (3, .int (-1 : Int32)), (0, va_rf (some a0)), (1, .int a1), (2, .int a2)]) hx hb dX0_sofa_29 hl (by decide) rfl (fun ls hl => ?_)
  exact wX0_sofa_31 S hr hlk hnm hG hRM FU a1 a2 (-1 : Int32) (0 : Int32) z _ _ hH hS _ (lv_sub hl [2, 3, 4, 1, 0] rfl)
/-! FourOnOne.share(I)I -/
def fX0_share_92 (K : KE) (h : HS) (a0 : Nat) (k33 : Int32 → Int32 → Int32 → Int32 → Int32 → Option (Int32)) (a1 : Int32) (a2 : Int32) (a3 : Int32) (a4 : Int32) (a5 : Int32) : Option (Int32) :=
  k33 a1 a2 a3 a4 (a5 + (1 : Int32))
def fX0_share_128 (K : KE) (h : HS) (a0 : Nat) (t0 : Int32) (t1 : Int32) : Option (Int32) :=
  some (t0 + t1)
def fX0_share_33 (K : KE) (h : HS) (a0 : Nat) : Nat → Int32 → Int32 → Int32 → Int32 → Int32 → Option (Int32)
  | 0, _, _, _, _, _ => none
  | n + 1, a1, a2, a3, a4, a5 =>
    (rcv K h (some a0) 0).bind fun b1 =>
    (fX0_people K h b1).bind fun x2 =>
    if x2 ≤ a5 then
      (gR K h (some a0) 0 0).bind fun v4 =>
      (gI K h v4 1 3).bind fun v5 =>
      (gR K h (some a0) 0 9).bind fun v6 =>
      (gR K h v6 5 5).bind fun v7 =>
      (cI K h v7 0 a1).bind fun v8 =>
      (nz a2).bind fun d9 =>
      if a1 = a4 then
        fX0_share_128 K h a0 ((v5 * v8) / a2) a3
      else
      fX0_share_128 K h a0 ((v5 * v8) / a2) (0 : Int32)
    else
    (gR K h (some a0) 0 0).bind fun v11 =>
    (gI K h v11 1 3).bind fun v12 =>
    (gR K h (some a0) 0 9).bind fun v13 =>
    (gR K h v13 5 5).bind fun v14 =>
    (cI K h v14 0 a5).bind fun v15 =>
    (nz a2).bind fun d16 =>
    (gR K h (some a0) 0 9).bind fun v17 =>
    (gR K h v17 5 5).bind fun v18 =>
    (cI K h v18 0 a5).bind fun v19 =>
    (gR K h (some a0) 0 9).bind fun v20 =>
    (gR K h v20 5 5).bind fun v21 =>
    (cI K h v21 0 a4).bind fun v22 =>
    if v19 ≤ v22 then
      fX0_share_92 K h a0 (fun b1 b2 b3 b4 b5 => fX0_share_33 K h a0 n b1 b2 b3 b4 b5) a1 a2 (a3 - ((v12 * v15) / a2)) a4 a5
    else
    fX0_share_92 K h a0 (fun b1 b2 b3 b4 b5 => fX0_share_33 K h a0 n b1 b2 b3 b4 b5) a1 a2 (a3 - ((v12 * v15) / a2)) a5 a5
def fX0_share (K : KE) (h : HS) (a0 : Nat) (a1 : Int32) : Option (Int32) :=
  (rcv K h (some a0) 0).bind fun b1 =>
  (fX0_allSaw K h b1).bind fun x2 =>
  (rcv K h (some a0) 0).bind fun b3 =>
  (fX0_isPerson K h b3 a1).bind fun x4 =>
  if x4 = 0 then
    some (-1 : Int32)
  else
  if x2 = 0 then
    some (-1 : Int32)
  else
  (gR K h (some a0) 0 0).bind fun v7 =>
  (gI K h v7 1 3).bind fun v8 =>
  fX0_share_33 K h a0 FU a1 x2 v8 (0 : Int32) (0 : Int32)
set_option maxHeartbeats 4000000 in
theorem wX0_share_92 {p : Program} {l : Launch} {e : Env} {s : State} {m : MethodId} {args : Array Value} {below : List Frame} {meth : Method} {c : Code} {A : Nat → Prop} {D : va_G} {ac : Nat → ClassId} {K : KE} {h : HS} {a0 : Nat} (S : CallFix p m c cX0_share 6 s args lw_all RX0) (hr : meth.sig.returnType = some .int) (hlk : meth.locks = false) (hnm : meth.name = "share") (hG : GK A D ac K s) (hRM : RM K s (rmC 4 62 K h)) {x : Int32} {k33 : Int32 → Int32 → Int32 → Int32 → Int32 → Option (Int32)} (hk33 : ∀ a1 a2 a3 a4 a5, k33 a1 a2 a3 a4 a5 = some x → cGo p l e (rmC 4 62 K h) s m args below meth c A D ac K (MQ below (cQi A D ac K (h, x)) args s (K.2.2.1 - h.2.1) (K.2.2.2 - h.2.2) A) 6 33 [(0, va_rf (some a0)), (1, .int a1), (2, .int a2), (3, .int a3), (4, .int a4), (5, .int a5)] [] h) : ∀ (a1 : Int32) (a2 : Int32) (a3 : Int32) (a4 : Int32) (a5 : Int32), fX0_share_92 K h a0 k33 a1 a2 a3 a4 a5 = some x → cGo p l e (rmC 4 62 K h) s m args below meth c A D ac K (MQ below (cQi A D ac K (h, x)) args s (K.2.2.1 - h.2.1) (K.2.2.2 - h.2.2) A) 6 92 [(0, va_rf (some a0)), (1, .int a1), (2, .int a2), (3, .int a3), (4, .int a4), (5, .int a5)] [] h := by
  obtain ⟨hx, hb, hml, hown, hts⟩ := id S
  intro a1 a2 a3 a4 a5 z H locs hH hS ls hl
  unfold fX0_share_92 at z
  refine lv_iinc (v := (a5 + (1 : Int32))) (lv' := [(5, .int (a5 + (1 : Int32))), (0, va_rf (some a0)), (1, .int a1), (2, .int a2), (3, .int a3), (4, .int a4)]) hx hb dX0_share_92 hl (k := 5) rfl rfl (by decide) rfl (fun ls hl => ?_)
  refine lv_goto (tgt := 33) hx hb dX0_share_95 (by decide) ?_
  exact hk33 a1 a2 a3 a4 (a5 + (1 : Int32)) z _ _ hH hS _ (lv_sub hl [1, 2, 3, 4, 5, 0] rfl)
set_option maxHeartbeats 4000000 in
theorem wX0_share_128 {p : Program} {l : Launch} {e : Env} {s : State} {m : MethodId} {args : Array Value} {below : List Frame} {meth : Method} {c : Code} {A : Nat → Prop} {D : va_G} {ac : Nat → ClassId} {K : KE} {h : HS} {a0 : Nat} (S : CallFix p m c cX0_share 6 s args lw_all RX0) (hr : meth.sig.returnType = some .int) (hlk : meth.locks = false) (hnm : meth.name = "share") (hG : GK A D ac K s) (hRM : RM K s (rmC 4 62 K h)) {x : Int32} : ∀ (t0 : Int32) (t1 : Int32), fX0_share_128 K h a0 t0 t1 = some x → cGo p l e (rmC 4 62 K h) s m args below meth c A D ac K (MQ below (cQi A D ac K (h, x)) args s (K.2.2.1 - h.2.1) (K.2.2.2 - h.2.2) A) 6 128 [(0, va_rf (some a0))] [.int t1, .int t0] h := by
  obtain ⟨hx, hb, hml, hown, hts⟩ := id S
  intro t0 t1 z H locs hH hS ls hl
  unfold fX0_share_128 at z
  refine lv_iadd hx hb dX0_share_128 ?_
  exact c_iret' S hr hlk rfl hH hS z dX0_share_129
set_option maxHeartbeats 4000000 in
theorem wX0_share_33 {p : Program} {l : Launch} {e : Env} {s : State} {m : MethodId} {args : Array Value} {below : List Frame} {meth : Method} {c : Code} {A : Nat → Prop} {D : va_G} {ac : Nat → ClassId} {K : KE} {h : HS} {a0 : Nat} (S : CallFix p m c cX0_share 6 s args lw_all RX0) (hr : meth.sig.returnType = some .int) (hlk : meth.locks = false) (hnm : meth.name = "share") (hG : GK A D ac K s) (hRM : RM K s (rmC 4 62 K h)) {x : Int32} : ∀ (n : Nat) (a1 : Int32) (a2 : Int32) (a3 : Int32) (a4 : Int32) (a5 : Int32), fX0_share_33 K h a0 n a1 a2 a3 a4 a5 = some x → cGo p l e (rmC 4 62 K h) s m args below meth c A D ac K (MQ below (cQi A D ac K (h, x)) args s (K.2.2.1 - h.2.1) (K.2.2.2 - h.2.2) A) 6 33 [(0, va_rf (some a0)), (1, .int a1), (2, .int a2), (3, .int a3), (4, .int a4), (5, .int a5)] [] h := by
  obtain ⟨hx, hb, hml, hown, hts⟩ := id S
  intro n
  induction n with
  | zero => intro a1 a2 a3 a4 a5 z; cases z
  | succ n ih =>
    intro a1 a2 a3 a4 a5 z H locs hH hS ls hl
    rw [fX0_share_33] at z
    refine lv_iload hx hb dX0_share_33 (lv_at hl 5 rfl) ?_
    refine c_aload_n hx hb dX0_share_35 rfl (lv_at hl 0 rfl) ?_
    replace z := ob z
    obtain ⟨b1, zb1, z⟩ := z
    obtain ⟨yb1, zb1⟩ := rcv_e zb1
    replace z := ob z
    obtain ⟨x2, zx2, z⟩ := z
    refine c_calli hH hS hRM (fun _ _ f1 f2 => va_runV (b := b1) (As := []) (rest := [.int a5]) S (metX0_people zx2) (cwV 0 hts (lw_V q1278 q1280 qs37 q167 q1281) rfl rfl rfl (by decide +kernel) ⟨(Nat.le_of_ble_eq_true rfl), (Nat.le_of_ble_eq_true rfl)⟩) (c_preV hG hH hS (ci := 0) rfl zb1) rfl rfl hl.1 (by rw [yb1]; rfl) (lv_room (Nat.le_of_ble_eq_true rfl)) dX0_share_36 ⟨f1, f2⟩) (fun H locs hH hS => ?_)
    refine lv_icmp_ge (tgt := 98) hx hb dX0_share_39 (by decide) (fun c3 => ?_) (fun c3 => ?_)
    · replace z := it c3 z
      refine c_aload_n hx hb dX0_share_98 rfl (lv_at hl 0 rfl) ?_
      replace z := ob z
      obtain ⟨v4, zv4, z⟩ := z
      obtain ⟨fsv4, yv4, zv4⟩ := gR_e zv4
      refine c_get S hG hH (ci := 0) (k := 0) rfl in_X0 (Nat.le_of_ble_eq_true rfl) q478 (fun _ y => y) yv4 zv4 dX0_share_99 ?_
      replace z := ob z
      obtain ⟨v5, zv5, z⟩ := z
      obtain ⟨fsv5, yv5, zv5⟩ := gI_e zv5
      refine c_getN S hG hH (ci := 1) (k := 3) rfl in_X1 (Nat.le_of_ble_eq_true rfl) q258 (fun _ y => y) yv5 zv5 dX0_share_102 ?_
      refine c_aload_n hx hb dX0_share_105 rfl (lv_at hl 0 rfl) ?_
      replace z := ob z
      obtain ⟨v6, zv6, z⟩ := z
      obtain ⟨fsv6, yv6, zv6⟩ := gR_e zv6
      refine c_get S hG hH (ci := 0) (k := 9) rfl in_X0 (Nat.le_of_ble_eq_true rfl) q489 (fun _ y => y) yv6 zv6 dX0_share_106 ?_
      replace z := ob z
      obtain ⟨v7, zv7, z⟩ := z
      obtain ⟨fsv7, yv7, zv7⟩ := gR_e zv7
      refine c_getN S hG hH (ci := 5) (k := 5) rfl in_X5 (Nat.le_of_ble_eq_true rfl) q440 (fun _ y => y) yv7 zv7 dX0_share_109 ?_
      refine lv_iload_n hx hb dX0_share_112 rfl (lv_at hl 1 rfl) ?_
      replace z := ob z
      obtain ⟨v8, zv8, z⟩ := z
      refine c_iald S hG hH zv8 dX0_share_113 ?_
      refine lv_imul hx hb dX0_share_114 ?_
      refine lv_iload_n hx hb dX0_share_115 rfl (lv_at hl 2 rfl) ?_
      replace z := ob z
      obtain ⟨d9, zd9, z⟩ := z
      obtain ⟨zd9, -⟩ := nz_e zd9
      refine lv_idiv hx hb dX0_share_116 zd9 ?_
      refine lv_iload_n hx hb dX0_share_117 rfl (lv_at hl 1 rfl) ?_
      refine lv_iload hx hb dX0_share_118 (lv_at hl 4 rfl) ?_
      refine lv_icmp_ne (tgt := 127) hx hb dX0_share_120 (by decide) (fun c10 => ?_) (fun c10 => ?_)
      · replace z := ie c10 z
        refine lv_iconst (v := (0 : Int32)) hx hb dX0_share_127 (by decide) ?_
        exact wX0_share_128 S hr hlk hnm hG hRM ((v5 * v8) / a2) (0 : Int32) z _ _ hH hS _ (lv_sub hl [0] rfl)
      replace z := it c10 z
      refine lv_iload_n hx hb dX0_share_123 rfl (lv_at hl 3 rfl) ?_
      refine lv_goto (tgt := 128) hx hb dX0_share_124 (by decide) ?_
      exact wX0_share_128 S hr hlk hnm hG hRM ((v5 * v8) / a2) a3 z _ _ hH hS _ (lv_sub hl [0] rfl)
    replace z := ie c3 z
    refine lv_iload_n hx hb dX0_share_42 rfl (lv_at hl 3 rfl) ?_
    refine c_aload_n hx hb dX0_share_43 rfl (lv_at hl 0 rfl) ?_
    replace z := ob z
    obtain ⟨v11, zv11, z⟩ := z
    obtain ⟨fsv11, yv11, zv11⟩ := gR_e zv11
    refine c_get S hG hH (ci := 0) (k := 0) rfl in_X0 (Nat.le_of_ble_eq_true rfl) q478 (fun _ y => y) yv11 zv11 dX0_share_44 ?_
    replace z := ob z
    obtain ⟨v12, zv12, z⟩ := z
    obtain ⟨fsv12, yv12, zv12⟩ := gI_e zv12
    refine c_getN S hG hH (ci := 1) (k := 3) rfl in_X1 (Nat.le_of_ble_eq_true rfl) q258 (fun _ y => y) yv12 zv12 dX0_share_47 ?_
    refine c_aload_n hx hb dX0_share_50 rfl (lv_at hl 0 rfl) ?_
    replace z := ob z
    obtain ⟨v13, zv13, z⟩ := z
    obtain ⟨fsv13, yv13, zv13⟩ := gR_e zv13
    refine c_get S hG hH (ci := 0) (k := 9) rfl in_X0 (Nat.le_of_ble_eq_true rfl) q489 (fun _ y => y) yv13 zv13 dX0_share_51 ?_
    replace z := ob z
    obtain ⟨v14, zv14, z⟩ := z
    obtain ⟨fsv14, yv14, zv14⟩ := gR_e zv14
    refine c_getN S hG hH (ci := 5) (k := 5) rfl in_X5 (Nat.le_of_ble_eq_true rfl) q440 (fun _ y => y) yv14 zv14 dX0_share_54 ?_
    refine lv_iload hx hb dX0_share_57 (lv_at hl 5 rfl) ?_
    replace z := ob z
    obtain ⟨v15, zv15, z⟩ := z
    refine c_iald S hG hH zv15 dX0_share_59 ?_
    refine lv_imul hx hb dX0_share_60 ?_
    refine lv_iload_n hx hb dX0_share_61 rfl (lv_at hl 2 rfl) ?_
    replace z := ob z
    obtain ⟨d16, zd16, z⟩ := z
    obtain ⟨zd16, -⟩ := nz_e zd16
    refine lv_idiv hx hb dX0_share_62 zd16 ?_
    refine lv_isub hx hb dX0_share_63 ?_
    refine lv_istore_n (lv' := [(3, .int (a3 - ((v12 * v15) / a2))), (0, va_rf (some a0)), (1, .int a1), (2, .int a2), (4, .int a4), (5, .int a5)]) hx hb dX0_share_64 rfl hl (by decide) rfl (fun ls hl => ?_)
    refine c_aload_n hx hb dX0_share_65 rfl (lv_at hl 1 rfl) ?_
    replace z := ob z
    obtain ⟨v17, zv17, z⟩ := z
    obtain ⟨fsv17, yv17, zv17⟩ := gR_e zv17
    refine c_get S hG hH (ci := 0) (k := 9) rfl in_X0 (Nat.le_of_ble_eq_true rfl) q489 (fun _ y => y) yv17 zv17 dX0_share_66 ?_
    replace z := ob z
    obtain ⟨v18, zv18, z⟩ := z
    obtain ⟨fsv18, yv18, zv18⟩ := gR_e zv18
    refine c_getN S hG hH (ci := 5) (k := 5) rfl in_X5 (Nat.le_of_ble_eq_true rfl) q440 (fun _ y => y) yv18 zv18 dX0_share_69 ?_
    refine lv_iload hx hb dX0_share_72 (lv_at hl 5 rfl) ?_
    replace z := ob z
    obtain ⟨v19, zv19, z⟩ := z
    refine c_iald S hG hH zv19 dX0_share_74 ?_
    refine c_aload_n hx hb dX0_share_75 rfl (lv_at hl 1 rfl) ?_
    replace z := ob z
    obtain ⟨v20, zv20, z⟩ := z
    obtain ⟨fsv20, yv20, zv20⟩ := gR_e zv20
    refine c_get S hG hH (ci := 0) (k := 9) rfl in_X0 (Nat.le_of_ble_eq_true rfl) q489 (fun _ y => y) yv20 zv20 dX0_share_76 ?_
    replace z := ob z
    obtain ⟨v21, zv21, z⟩ := z
    obtain ⟨fsv21, yv21, zv21⟩ := gR_e zv21
    refine c_getN S hG hH (ci := 5) (k := 5) rfl in_X5 (Nat.le_of_ble_eq_true rfl) q440 (fun _ y => y) yv21 zv21 dX0_share_79 ?_
    refine lv_iload hx hb dX0_share_82 (lv_at hl 4 rfl) ?_
    replace z := ob z
    obtain ⟨v22, zv22, z⟩ := z
    refine c_iald S hG hH zv22 dX0_share_84 ?_
    refine lv_icmp_le (tgt := 92) hx hb dX0_share_85 (by decide) (fun c23 => ?_) (fun c23 => ?_)
    · replace z := it c23 z
      exact wX0_share_92 S hr hlk hnm hG hRM ih a1 a2 (a3 - ((v12 * v15) / a2)) a4 a5 z _ _ hH hS _ (lv_sub hl [1, 2, 3, 0, 4, 5] rfl)
    replace z := ie c23 z
    refine lv_iload hx hb dX0_share_88 (lv_at hl 5 rfl) ?_
    refine lv_istore (lv' := [(4, .int a5), (3, .int (a3 - ((v12 * v15) / a2))), (0, va_rf (some a0)), (1, .int a1), (2, .int a2), (5, .int a5)]) hx hb dX0_share_90 hl (by decide) rfl (fun ls hl => ?_)
    exact wX0_share_92 S hr hlk hnm hG hRM ih a1 a2 (a3 - ((v12 * v15) / a2)) a5 a5 z _ _ hH hS _ (lv_sub hl [2, 3, 4, 1, 0, 5] rfl)
set_option maxHeartbeats 4000000 in
theorem metX0_share {l : Launch} {A : Nat → Prop} {D : va_G} {ac : Nat → ClassId} {K : KE} {h : HS} {a0 : Nat} {a1 : Int32} {x : Int32} (z : fX0_share K h a0 a1 = some x) : Met l yX0_share (ws_ yX0_share cX0_share 6 (some .int)) (rmC 4 62 K h) (cP A D ac K h [va_rf (some a0), .int a1]) (cQi A D ac K (h, x)) (K.2.2.1 - h.2.1) (K.2.2.2 - h.2.2) A := by
  refine c_entry (plainFor_of_name (by decide)) (Nat.le_of_ble_eq_true rfl) ?_
  intro p e s m below meth c S hr hlk hnm hG hRM hH hS ls hl
  replace hl : lv_has ls 6 [(0, va_rf (some a0)), (1, .int a1)] := hl
  replace hnm : meth.name = "share" := hnm
  replace S : CallFix p m c cX0_share 6 s _ lw_all RX0 := S
  obtain ⟨hx, hb, hml, hown, hts⟩ := id S
  unfold fX0_share at z
  refine c_aload_n hx hb dX0_share_0 rfl (lv_at hl 0 rfl) ?_
  replace z := ob z
  obtain ⟨b1, zb1, z⟩ := z
  obtain ⟨yb1, zb1⟩ := rcv_e zb1
  replace z := ob z
  obtain ⟨x2, zx2, z⟩ := z
  refine c_calli hH hS hRM (fun _ _ f1 f2 => va_runV (b := b1) (As := []) (rest := []) S (metX0_allSaw zx2) (cwV 0 hts (lw_V q1288 q1290 qs38 q167 q1291) rfl rfl rfl (by decide +kernel) ⟨(Nat.le_of_ble_eq_true rfl), (Nat.le_of_ble_eq_true rfl)⟩) (c_preV hG hH hS (ci := 0) rfl zb1) rfl rfl hl.1 (by rw [yb1]; rfl) (lv_room (Nat.le_of_ble_eq_true rfl)) dX0_share_1 ⟨f1, f2⟩) (fun H locs hH hS => ?_)
  refine lv_istore_n (lv' := [(2, .int x2), (0, va_rf (some a0)), (1, .int a1)]) hx hb dX0_share_4 rfl hl (by decide) rfl (fun ls hl => ?_)
  refine c_aload_n hx hb dX0_share_5 rfl (lv_at hl 1 rfl) ?_
  refine lv_iload_n hx hb dX0_share_6 rfl (lv_at hl 2 rfl) ?_
  replace z := ob z
  obtain ⟨b3, zb3, z⟩ := z
  obtain ⟨yb3, zb3⟩ := rcv_e zb3
  replace z := ob z
  obtain ⟨x4, zx4, z⟩ := z
  refine c_calli hH hS hRM (fun _ _ f1 f2 => va_runV (b := b3) (As := [.int a1]) (rest := []) S (metX0_isPerson zx4) (cwV 1 hts (lw_V q1340 q1342 qs42 q167 q1343) rfl rfl rfl (by decide +kernel) ⟨(Nat.le_of_ble_eq_true rfl), (Nat.le_of_ble_eq_true rfl)⟩) (c_preV hG hH hS (ci := 0) rfl zb3) rfl rfl hl.1 (by rw [yb3]; rfl) (lv_room (Nat.le_of_ble_eq_true rfl)) dX0_share_7 ⟨f1, f2⟩) (fun H locs hH hS => ?_)
  refine lv_if_eq (tgt := 17) hx hb dX0_share_10 (by decide) (fun c5 => ?_) (fun c5 => ?_)
  · replace z := it c5 z
    refine lv_iconst (v := (-1 : Int32)) hx hb dX0_share_17 (by decide) ?_
    exact c_iret' S hr hlk rfl hH hS z dX0_share_18
  replace z := ie c5 z
  refine lv_iload_n hx hb dX0_share_13 rfl (lv_at hl 0 rfl) ?_
  refine lv_if_ne (tgt := 19) hx hb dX0_share_14 (by decide) (fun c6 => ?_) (fun c6 => ?_)
  rotate_left 1
  · replace z := it c6 z
    refine lv_iconst (v := (-1 : Int32)) hx hb dX0_share_17 (by decide) ?_
    exact c_iret' S hr hlk rfl hH hS z dX0_share_18
  replace z := ie c6 z
  refine c_aload_n hx hb dX0_share_19 rfl (lv_at hl 1 rfl) ?_
  replace z := ob z
  obtain ⟨v7, zv7, z⟩ := z
  obtain ⟨fsv7, yv7, zv7⟩ := gR_e zv7
  refine c_get S hG hH (ci := 0) (k := 0) rfl in_X0 (Nat.le_of_ble_eq_true rfl) q478 (fun _ y => y) yv7 zv7 dX0_share_20 ?_
  replace z := ob z
  obtain ⟨v8, zv8, z⟩ := z
  obtain ⟨fsv8, yv8, zv8⟩ := gI_e zv8
  refine c_getN S hG hH (ci := 1) (k := 3) rfl in_X1 (Nat.le_of_ble_eq_true rfl) q258 (fun _ y => y) yv8 zv8 dX0_share_23 ?_
  refine lv_istore_n (lv' := [(3, .int v8), (2, .int x2), (0, va_rf (some a0)), (1, .int a1)]) hx hb dX0_share_26 rfl hl (by decide) rfl (fun ls hl => ?_)
  refine lv_iconst (v := (0 : Int32)) hx hb dX0_share_27 (by decide) ?_
  refine lv_istore (lv' := [(4, .int (0 : Int32)), (3, .int v8), (2, .int x2), (0, va_rf (some a0)), (1, .int a1)]) hx hb dX0_share_28 hl (by decide) rfl (fun ls hl => ?_)
  refine lv_iconst (v := (0 : Int32)) hx hb dX0_share_30 (by decide) ?_
  refine lv_istore (lv' := [(5, .int (0 : Int32)), (4, .int (0 : Int32)), (3, .int v8), (2, .int x2), (0, va_rf (some a0)), (1, .int a1)]) hx hb dX0_share_31 hl (by decide) rfl (fun ls hl => ?_)
  exact wX0_share_33 S hr hlk hnm hG hRM FU a1 x2 v8 (0 : Int32) (0 : Int32) z _ _ hH hS _ (lv_sub hl [4, 5, 3, 2, 1, 0] rfl)
/-! FourOnOne.byteAt(I)I -/
def fX0_byteAt (K : KE) (h : HS) (a0 : Nat) (a1 : Int32) : Option (Int32) :=
  (gR K h (some a0) 0 1).bind fun v1 =>
  (cI K h v1 3 a1).bind fun v2 =>
  some (v2 &&& (255 : Int32))
set_option maxHeartbeats 4000000 in
theorem metX0_byteAt {l : Launch} {A : Nat → Prop} {D : va_G} {ac : Nat → ClassId} {K : KE} {h : HS} {a0 : Nat} {a1 : Int32} {x : Int32} (z : fX0_byteAt K h a0 a1 = some x) : Met l yX0_byteAt (ws_ yX0_byteAt cX0_byteAt 2 (some .int)) (rmC 1 0 K h) (cP A D ac K h [va_rf (some a0), .int a1]) (cQi A D ac K (h, x)) (K.2.2.1 - h.2.1) (K.2.2.2 - h.2.2) A := by
  refine c_entry (plainFor_of_name (by decide)) (Nat.le_of_ble_eq_true rfl) ?_
  intro p e s m below meth c S hr hlk hnm hG hRM hH hS ls hl
  replace hl : lv_has ls 2 [(0, va_rf (some a0)), (1, .int a1)] := hl
  replace hnm : meth.name = "byteAt" := hnm
  replace S : CallFix p m c cX0_byteAt 2 s _ lw_all RX0 := S
  obtain ⟨hx, hb, hml, hown, hts⟩ := id S
  unfold fX0_byteAt at z
  refine c_aload_n hx hb dX0_byteAt_0 rfl (lv_at hl 0 rfl) ?_
  replace z := ob z
  obtain ⟨v1, zv1, z⟩ := z
  obtain ⟨fsv1, yv1, zv1⟩ := gR_e zv1
  refine c_get S hG hH (ci := 0) (k := 1) rfl in_X0 (Nat.le_of_ble_eq_true rfl) q480 (fun _ y => y) yv1 zv1 dX0_byteAt_1 ?_
  refine lv_iload_n hx hb dX0_byteAt_4 rfl (lv_at hl 1 rfl) ?_
  replace z := ob z
  obtain ⟨v2, zv2, z⟩ := z
  refine c_bald S hG hH zv2 dX0_byteAt_5 ?_
  refine lv_sipush (v := (255 : Int32)) hx hb dX0_byteAt_6 (by decide) ?_
  refine lv_iand hx hb dX0_byteAt_9 ?_
  exact c_iret' S hr hlk rfl hH hS z dX0_byteAt_10
/-! FourOnOne.tell()I -/
def fX0_tell_78 (K : KE) (a0 : Nat) (k29 : HS → Int32 → Int32 → Int32 → Option (HS × Int32)) (h : HS) (a1 : Int32) (a3 : Int32) (t0 : Int32) : Option (HS × Int32) :=
  k29 h a1 t0 (a3 + (3 : Int32))
def fX0_tell_77 (K : KE) (a0 : Nat) (k29 : HS → Int32 → Int32 → Int32 → Option (HS × Int32)) (h : HS) (a1 : Int32) (a3 : Int32) : Option (HS × Int32) :=
  fX0_tell_78 K a0 k29 h a1 a3 (0 : Int32)
def fX0_tell_163 (K : KE) (a0 : Nat) (k104 : HS → Int32 → Option (HS × Int32)) (h : HS) (a3 : Int32) (t0 : Option Nat) (t1 : Int32) (t2 : Int32) : Option (HS × Int32) :=
  (sC h t0 4 t1 (vp_nar .boolean t2)).bind fun h1 =>
  k104 h1 (a3 + (1 : Int32))
def fX0_tell_104 (K : KE) (a0 : Nat) : Nat → HS → Int32 → Option (HS × Int32)
  | 0, _, _ => none
  | n + 1, h, a3 =>
    (gI K h (some a0) 0 15).bind fun v1 =>
    if v1 ≤ a3 then
      (gI K h (some a0) 0 15).bind fun v3 =>
      some (h, v3)
    else
    (gR K h (some a0) 0 12).bind fun v4 =>
    (rcv K h (some a0) 0).bind fun b5 =>
    (fX0_byteAt K h b5 ((3 : Int32) * a3)).bind fun x6 =>
    (sC h v4 0 a3 x6).bind fun h7 =>
    (gR K h7 (some a0) 0 13).bind fun v8 =>
    (rcv K h7 (some a0) 0).bind fun b9 =>
    (fX0_byteAt K h7 b9 (((3 : Int32) * a3) + (1 : Int32))).bind fun x10 =>
    (sC h7 v8 0 a3 x10).bind fun h11 =>
    (gR K h11 (some a0) 0 14).bind fun v12 =>
    (rcv K h11 (some a0) 0).bind fun b13 =>
    (fX0_byteAt K h11 b13 (((3 : Int32) * a3) + (2 : Int32))).bind fun x14 =>
    if x14 = (1 : Int32) then
      fX0_tell_163 K a0 (fun h' b3 => fX0_tell_104 K a0 n h' b3) h11 a3 v12 a3 (1 : Int32)
    else
    fX0_tell_163 K a0 (fun h' b3 => fX0_tell_104 K a0 n h' b3) h11 a3 v12 a3 (0 : Int32)
def fX0_tell_85 (K : KE) (a0 : Nat) (h : HS) (a1 : Int32) (a2 : Int32) : Option (HS × Int32) :=
  if a2 = 0 then
    (rcv K h (some a0) 0).bind fun b3 =>
    (fX0_refuses K h b3 (1 : Int32)).bind fun x4 =>
    some (x4.1, x4.2)
  else
  (pV h (some a0) 0 15 (.int (a1 / (3 : Int32)))).bind fun h2 =>
  fX0_tell_104 K a0 FU h2 (0 : Int32)
def fX0_tell_29 (K : KE) (a0 : Nat) : Nat → HS → Int32 → Int32 → Int32 → Option (HS × Int32)
  | 0, _, _, _, _ => none
  | n + 1, h, a1, a2, a3 =>
    if a1 ≤ a3 then
      fX0_tell_85 K a0 h a1 a2
    else
    if a2 = 0 then
      fX0_tell_85 K a0 h a1 a2
    else
    (rcv K h (some a0) 0).bind fun b3 =>
    (fX0_byteAt K h b3 a3).bind fun x4 =>
    if (24 : Int32) ≤ x4 then
      fX0_tell_77 K a0 (fun h' b1 b2 b3 => fX0_tell_29 K a0 n h' b1 b2 b3) h a1 a3
    else
    (rcv K h (some a0) 0).bind fun b6 =>
    (fX0_byteAt K h b6 (a3 + (1 : Int32))).bind fun x7 =>
    (rcv K h (some a0) 0).bind fun b8 =>
    (fX0_isFilm K h b8 x7).bind fun x9 =>
    if x9 = 0 then
      fX0_tell_77 K a0 (fun h' b1 b2 b3 => fX0_tell_29 K a0 n h' b1 b2 b3) h a1 a3
    else
    (rcv K h (some a0) 0).bind fun b11 =>
    (fX0_byteAt K h b11 (a3 + (2 : Int32))).bind fun x12 =>
    if (2 : Int32) ≤ x12 then
      fX0_tell_77 K a0 (fun h' b1 b2 b3 => fX0_tell_29 K a0 n h' b1 b2 b3) h a1 a3
    else
    fX0_tell_78 K a0 (fun h' b1 b2 b3 => fX0_tell_29 K a0 n h' b1 b2 b3) h a1 a3 (1 : Int32)
def fX0_tell_26 (K : KE) (a0 : Nat) (h : HS) (a1 : Int32) (t0 : Int32) : Option (HS × Int32) :=
  fX0_tell_29 K a0 FU h a1 t0 (0 : Int32)
def fX0_tell_25 (K : KE) (a0 : Nat) (h : HS) (a1 : Int32) : Option (HS × Int32) :=
  fX0_tell_26 K a0 h a1 (0 : Int32)
def fX0_tell (K : KE) (h : HS) (a0 : Nat) : Option (HS × Int32) :=
  (rcv K h (some a0) 0).bind fun b1 =>
  (fX0_taken K h b1).bind fun x2 =>
  if x2.2 ≤ 0 then
    fX0_tell_25 K a0 x2.1 x2.2
  else
  if (x2.2 - x2.2 / (3 : Int32) * (3 : Int32)) = 0 then
    if (48 : Int32) < x2.2 then
      fX0_tell_25 K a0 x2.1 x2.2
    else
    fX0_tell_26 K a0 x2.1 x2.2 (1 : Int32)
  else
  fX0_tell_25 K a0 x2.1 x2.2
set_option maxHeartbeats 4000000 in
theorem wX0_tell_78 {p : Program} {l : Launch} {e : Env} {s : State} {m : MethodId} {args : Array Value} {below : List Frame} {meth : Method} {c : Code} {A : Nat → Prop} {D : va_G} {ac : Nat → ClassId} {K : KE} {h0 : HS} {a0 : Nat} (S : CallFix p m c cX0_tell 4 s args lw_all RX0) (hr : meth.sig.returnType = some .int) (hlk : meth.locks = false) (hnm : meth.name = "tell") (hG : GK A D ac K s) (hRM : RM K s (rmC 4 61 K h0)) {x : HS × Int32} {k29 : HS → Int32 → Int32 → Int32 → Option (HS × Int32)} (hk29 : ∀ h a1 a2 a3, k29 h a1 a2 a3 = some x → cGo p l e (rmC 4 61 K h0) s m args below meth c A D ac K (MQ below (cQi A D ac K x) args s (K.2.2.1 - h0.2.1) (K.2.2.2 - h0.2.2) A) 4 29 [(0, va_rf (some a0)), (1, .int a1), (2, .int a2), (3, .int a3)] [] h) : ∀ (h : HS) (a1 : Int32) (a3 : Int32) (t0 : Int32), fX0_tell_78 K a0 k29 h a1 a3 t0 = some x → cGo p l e (rmC 4 61 K h0) s m args below meth c A D ac K (MQ below (cQi A D ac K x) args s (K.2.2.1 - h0.2.1) (K.2.2.2 - h0.2.2) A) 4 78 [(0, va_rf (some a0)), (1, .int a1), (3, .int a3)] [.int t0] h := by
  obtain ⟨hx, hb, hml, hown, hts⟩ := id S
  intro h a1 a3 t0 z H locs hH hS ls hl
  unfold fX0_tell_78 at z
  refine lv_istore_n (lv' := [(2, .int t0), (0, va_rf (some a0)), (1, .int a1), (3, .int a3)]) hx hb dX0_tell_78 rfl hl (by decide) rfl (fun ls hl => ?_)
  refine lv_iinc (v := (a3 + (3 : Int32))) (lv' := [(3, .int (a3 + (3 : Int32))), (2, .int t0), (0, va_rf (some a0)), (1, .int a1)]) hx hb dX0_tell_79 hl (k := 3) rfl rfl (by decide) rfl (fun ls hl => ?_)
  refine lv_goto (tgt := 29) hx hb dX0_tell_82 (by decide) ?_
  exact hk29 h a1 t0 (a3 + (3 : Int32)) z _ _ hH hS _ (lv_sub hl [2, 3, 1, 0] rfl)
set_option maxHeartbeats 4000000 in
theorem wX0_tell_77 {p : Program} {l : Launch} {e : Env} {s : State} {m : MethodId} {args : Array Value} {below : List Frame} {meth : Method} {c : Code} {A : Nat → Prop} {D : va_G} {ac : Nat → ClassId} {K : KE} {h0 : HS} {a0 : Nat} (S : CallFix p m c cX0_tell 4 s args lw_all RX0) (hr : meth.sig.returnType = some .int) (hlk : meth.locks = false) (hnm : meth.name = "tell") (hG : GK A D ac K s) (hRM : RM K s (rmC 4 61 K h0)) {x : HS × Int32} {k29 : HS → Int32 → Int32 → Int32 → Option (HS × Int32)} (hk29 : ∀ h a1 a2 a3, k29 h a1 a2 a3 = some x → cGo p l e (rmC 4 61 K h0) s m args below meth c A D ac K (MQ below (cQi A D ac K x) args s (K.2.2.1 - h0.2.1) (K.2.2.2 - h0.2.2) A) 4 29 [(0, va_rf (some a0)), (1, .int a1), (2, .int a2), (3, .int a3)] [] h) : ∀ (h : HS) (a1 : Int32) (a3 : Int32), fX0_tell_77 K a0 k29 h a1 a3 = some x → cGo p l e (rmC 4 61 K h0) s m args below meth c A D ac K (MQ below (cQi A D ac K x) args s (K.2.2.1 - h0.2.1) (K.2.2.2 - h0.2.2) A) 4 77 [(0, va_rf (some a0)), (1, .int a1), (3, .int a3)] [] h := by
  obtain ⟨hx, hb, hml, hown, hts⟩ := id S
  intro h a1 a3 z H locs hH hS ls hl
  unfold fX0_tell_77 at z
  refine lv_iconst (v := (0 : Int32)) hx hb dX0_tell_77 (by decide) ?_
  exact wX0_tell_78 S hr hlk hnm hG hRM hk29 h a1 a3 (0 : Int32) z _ _ hH hS _ (lv_sub hl [0, 1, 2] rfl)
set_option maxHeartbeats 4000000 in
theorem wX0_tell_163 {p : Program} {l : Launch} {e : Env} {s : State} {m : MethodId} {args : Array Value} {below : List Frame} {meth : Method} {c : Code} {A : Nat → Prop} {D : va_G} {ac : Nat → ClassId} {K : KE} {h0 : HS} {a0 : Nat} (S : CallFix p m c cX0_tell 4 s args lw_all RX0) (hr : meth.sig.returnType = some .int) (hlk : meth.locks = false) (hnm : meth.name = "tell") (hG : GK A D ac K s) (hRM : RM K s (rmC 4 61 K h0)) {x : HS × Int32} {k104 : HS → Int32 → Option (HS × Int32)} (hk104 : ∀ h a3, k104 h a3 = some x → cGo p l e (rmC 4 61 K h0) s m args below meth c A D ac K (MQ below (cQi A D ac K x) args s (K.2.2.1 - h0.2.1) (K.2.2.2 - h0.2.2) A) 4 104 [(0, va_rf (some a0)), (3, .int a3)] [] h) : ∀ (h : HS) (a3 : Int32) (t0 : Option Nat) (t1 : Int32) (t2 : Int32), fX0_tell_163 K a0 k104 h a3 t0 t1 t2 = some x → cGo p l e (rmC 4 61 K h0) s m args below meth c A D ac K (MQ below (cQi A D ac K x) args s (K.2.2.1 - h0.2.1) (K.2.2.2 - h0.2.2) A) 4 163 [(0, va_rf (some a0)), (3, .int a3)] [.int t2, .int t1, va_rf t0] h := by
  obtain ⟨hx, hb, hml, hown, hts⟩ := id S
  intro h a3 t0 t1 t2 z H locs hH hS ls hl
  unfold fX0_tell_163 at z
  replace z := ob z
  obtain ⟨h1, zh1, z⟩ := z
  refine c_zast S hG hH hS zh1 dX0_tell_163 (fun H locs hH hS => ?_)
  refine lv_iinc (v := (a3 + (1 : Int32))) (lv' := [(3, .int (a3 + (1 : Int32))), (0, va_rf (some a0))]) hx hb dX0_tell_164 hl (k := 1) rfl rfl (by decide) rfl (fun ls hl => ?_)
  refine lv_goto (tgt := 104) hx hb dX0_tell_167 (by decide) ?_
  exact hk104 h1 (a3 + (1 : Int32)) z _ _ hH hS _ (lv_sub hl [1, 0] rfl)
set_option maxHeartbeats 4000000 in
theorem wX0_tell_104 {p : Program} {l : Launch} {e : Env} {s : State} {m : MethodId} {args : Array Value} {below : List Frame} {meth : Method} {c : Code} {A : Nat → Prop} {D : va_G} {ac : Nat → ClassId} {K : KE} {h0 : HS} {a0 : Nat} (S : CallFix p m c cX0_tell 4 s args lw_all RX0) (hr : meth.sig.returnType = some .int) (hlk : meth.locks = false) (hnm : meth.name = "tell") (hG : GK A D ac K s) (hRM : RM K s (rmC 4 61 K h0)) {x : HS × Int32} : ∀ (n : Nat) (h : HS) (a3 : Int32), fX0_tell_104 K a0 n h a3 = some x → cGo p l e (rmC 4 61 K h0) s m args below meth c A D ac K (MQ below (cQi A D ac K x) args s (K.2.2.1 - h0.2.1) (K.2.2.2 - h0.2.2) A) 4 104 [(0, va_rf (some a0)), (3, .int a3)] [] h := by
  obtain ⟨hx, hb, hml, hown, hts⟩ := id S
  intro n
  induction n with
  | zero => intro h a3 z; cases z
  | succ n ih =>
    intro h a3 z H locs hH hS ls hl
    rw [fX0_tell_104] at z
    refine lv_iload_n hx hb dX0_tell_104 rfl (lv_at hl 1 rfl) ?_
    refine c_aload_n hx hb dX0_tell_105 rfl (lv_at hl 0 rfl) ?_
    replace z := ob z
    obtain ⟨v1, zv1, z⟩ := z
    obtain ⟨fsv1, yv1, zv1⟩ := gI_e zv1
    refine c_get S hG hH (ci := 0) (k := 15) rfl in_X0 (Nat.le_of_ble_eq_true rfl) q495 (fun _ y => y) yv1 zv1 dX0_tell_106 ?_
    refine lv_icmp_ge (tgt := 170) hx hb dX0_tell_109 (by decide) (fun c2 => ?_) (fun c2 => ?_)
    · replace z := it c2 z
      refine c_aload_n hx hb dX0_tell_170 rfl (lv_at hl 0 rfl) ?_
      replace z := ob z
      obtain ⟨v3, zv3, z⟩ := z
      obtain ⟨fsv3, yv3, zv3⟩ := gI_e zv3
      refine c_get S hG hH (ci := 0) (k := 15) rfl in_X0 (Nat.le_of_ble_eq_true rfl) q495 (fun _ y => y) yv3 zv3 dX0_tell_171 ?_
      exact c_iret S hr hlk rfl hH hS z dX0_tell_174
    replace z := ie c2 z
    refine c_aload_n hx hb dX0_tell_112 rfl (lv_at hl 0 rfl) ?_
    replace z := ob z
    obtain ⟨v4, zv4, z⟩ := z
    obtain ⟨fsv4, yv4, zv4⟩ := gR_e zv4
    refine c_get S hG hH (ci := 0) (k := 12) rfl in_X0 (Nat.le_of_ble_eq_true rfl) q492 (fun _ y => y) yv4 zv4 dX0_tell_113 ?_
    refine lv_iload_n hx hb dX0_tell_116 rfl (lv_at hl 1 rfl) ?_
    refine c_aload_n hx hb dX0_tell_117 rfl (lv_at hl 0 rfl) ?_
    refine lv_iconst (v := (3 : Int32)) hx hb dX0_tell_118 (by decide) ?_
    refine lv_iload_n hx hb dX0_tell_119 rfl (lv_at hl 1 rfl) ?_
    refine lv_imul hx hb dX0_tell_120 ?_
    replace z := ob z
    obtain ⟨b5, zb5, z⟩ := z
    obtain ⟨yb5, zb5⟩ := rcv_e zb5
    replace z := ob z
    obtain ⟨x6, zx6, z⟩ := z
    refine c_calli hH hS hRM (fun _ _ f1 f2 => va_runV (b := b5) (As := [.int ((3 : Int32) * a3)]) (rest := [.int a3, va_rf v4]) S (metX0_byteAt zx6) (cwV 1 hts (lw_V q1588 q1590 qs56 q167 q1591) rfl rfl rfl (by decide +kernel) ⟨(Nat.le_of_ble_eq_true rfl), (Nat.le_of_ble_eq_true rfl)⟩) (c_preV hG hH hS (ci := 0) rfl zb5) rfl rfl hl.1 (by rw [yb5]; rfl) (lv_room (by simp [ct_r, ct_i, ct_l])) dX0_tell_121 ⟨f1, f2⟩) (fun H locs hH hS => ?_)
    replace z := ob z
    obtain ⟨h7, zh7, z⟩ := z
    refine c_iast S hG hH hS zh7 dX0_tell_124 (fun H locs hH hS => ?_)
    refine c_aload_n hx hb dX0_tell_125 rfl (lv_at hl 0 rfl) ?_
    replace z := ob z
    obtain ⟨v8, zv8, z⟩ := z
    obtain ⟨fsv8, yv8, zv8⟩ := gR_e zv8
    refine c_get S hG hH (ci := 0) (k := 13) rfl in_X0 (Nat.le_of_ble_eq_true rfl) q493 (fun _ y => y) yv8 zv8 dX0_tell_126 ?_
    refine lv_iload_n hx hb dX0_tell_129 rfl (lv_at hl 1 rfl) ?_
    refine c_aload_n hx hb dX0_tell_130 rfl (lv_at hl 0 rfl) ?_
    refine lv_iconst (v := (3 : Int32)) hx hb dX0_tell_131 (by decide) ?_
    refine lv_iload_n hx hb dX0_tell_132 rfl (lv_at hl 1 rfl) ?_
    refine lv_imul hx hb dX0_tell_133 ?_
    refine lv_iconst (v := (1 : Int32)) hx hb dX0_tell_134 (by decide) ?_
    refine lv_iadd hx hb dX0_tell_135 ?_
    replace z := ob z
    obtain ⟨b9, zb9, z⟩ := z
    obtain ⟨yb9, zb9⟩ := rcv_e zb9
    replace z := ob z
    obtain ⟨x10, zx10, z⟩ := z
    refine c_calli hH hS hRM (fun _ _ f1 f2 => va_runV (b := b9) (As := [.int (((3 : Int32) * a3) + (1 : Int32))]) (rest := [.int a3, va_rf v8]) S (metX0_byteAt zx10) (cwV 1 hts (lw_V q1588 q1590 qs56 q167 q1591) rfl rfl rfl (by decide +kernel) ⟨(Nat.le_of_ble_eq_true rfl), (Nat.le_of_ble_eq_true rfl)⟩) (c_preV hG hH hS (ci := 0) rfl zb9) rfl rfl hl.1 (by rw [yb9]; rfl) (lv_room (by simp [ct_r, ct_i, ct_l])) dX0_tell_136 ⟨f1, f2⟩) (fun H locs hH hS => ?_)
    replace z := ob z
    obtain ⟨h11, zh11, z⟩ := z
    refine c_iast S hG hH hS zh11 dX0_tell_139 (fun H locs hH hS => ?_)
    refine c_aload_n hx hb dX0_tell_140 rfl (lv_at hl 0 rfl) ?_
    replace z := ob z
    obtain ⟨v12, zv12, z⟩ := z
    obtain ⟨fsv12, yv12, zv12⟩ := gR_e zv12
    refine c_get S hG hH (ci := 0) (k := 14) rfl in_X0 (Nat.le_of_ble_eq_true rfl) q494 (fun _ y => y) yv12 zv12 dX0_tell_141 ?_
    refine lv_iload_n hx hb dX0_tell_144 rfl (lv_at hl 1 rfl) ?_
    refine c_aload_n hx hb dX0_tell_145 rfl (lv_at hl 0 rfl) ?_
    refine lv_iconst (v := (3 : Int32)) hx hb dX0_tell_146 (by decide) ?_
    refine lv_iload_n hx hb dX0_tell_147 rfl (lv_at hl 1 rfl) ?_
    refine lv_imul hx hb dX0_tell_148 ?_
    refine lv_iconst (v := (2 : Int32)) hx hb dX0_tell_149 (by decide) ?_
    refine lv_iadd hx hb dX0_tell_150 ?_
    replace z := ob z
    obtain ⟨b13, zb13, z⟩ := z
    obtain ⟨yb13, zb13⟩ := rcv_e zb13
    replace z := ob z
    obtain ⟨x14, zx14, z⟩ := z
    refine c_calli hH hS hRM (fun _ _ f1 f2 => va_runV (b := b13) (As := [.int (((3 : Int32) * a3) + (2 : Int32))]) (rest := [.int a3, va_rf v12]) S (metX0_byteAt zx14) (cwV 1 hts (lw_V q1588 q1590 qs56 q167 q1591) rfl rfl rfl (by decide +kernel) ⟨(Nat.le_of_ble_eq_true rfl), (Nat.le_of_ble_eq_true rfl)⟩) (c_preV hG hH hS (ci := 0) rfl zb13) rfl rfl hl.1 (by rw [yb13]; rfl) (lv_room (by simp [ct_r, ct_i, ct_l])) dX0_tell_151 ⟨f1, f2⟩) (fun H locs hH hS => ?_)
    refine lv_iconst (v := (1 : Int32)) hx hb dX0_tell_154 (by decide) ?_
    refine lv_icmp_ne (tgt := 162) hx hb dX0_tell_155 (by decide) (fun c15 => ?_) (fun c15 => ?_)
    · replace z := ie c15 z
      refine lv_iconst (v := (0 : Int32)) hx hb dX0_tell_162 (by decide) ?_
      exact wX0_tell_163 S hr hlk hnm hG hRM ih h11 a3 v12 a3 (0 : Int32) z _ _ hH hS _ (lv_sub hl [0, 1] rfl)
    replace z := it c15 z
    refine lv_iconst (v := (1 : Int32)) hx hb dX0_tell_158 (by decide) ?_
    refine lv_goto (tgt := 163) hx hb dX0_tell_159 (by decide) ?_
    exact wX0_tell_163 S hr hlk hnm hG hRM ih h11 a3 v12 a3 (1 : Int32) z _ _ hH hS _ (lv_sub hl [0, 1] rfl)
set_option maxHeartbeats 4000000 in
theorem wX0_tell_85 {p : Program} {l : Launch} {e : Env} {s : State} {m : MethodId} {args : Array Value} {below : List Frame} {meth : Method} {c : Code} {A : Nat → Prop} {D : va_G} {ac : Nat → ClassId} {K : KE} {h0 : HS} {a0 : Nat} (S : CallFix p m c cX0_tell 4 s args lw_all RX0) (hr : meth.sig.returnType = some .int) (hlk : meth.locks = false) (hnm : meth.name = "tell") (hG : GK A D ac K s) (hRM : RM K s (rmC 4 61 K h0)) {x : HS × Int32} : ∀ (h : HS) (a1 : Int32) (a2 : Int32), fX0_tell_85 K a0 h a1 a2 = some x → cGo p l e (rmC 4 61 K h0) s m args below meth c A D ac K (MQ below (cQi A D ac K x) args s (K.2.2.1 - h0.2.1) (K.2.2.2 - h0.2.2) A) 4 85 [(0, va_rf (some a0)), (1, .int a1), (2, .int a2)] [] h := by
  obtain ⟨hx, hb, hml, hown, hts⟩ := id S
  intro h a1 a2 z H locs hH hS ls hl
  unfold fX0_tell_85 at z
  refine lv_iload_n hx hb dX0_tell_85 rfl (lv_at hl 2 rfl) ?_
  refine lv_if_ne (tgt := 95) hx hb dX0_tell_86 (by decide) (fun c1 => ?_) (fun c1 => ?_)
  rotate_left 1
  · replace z := it c1 z
    refine c_aload_n hx hb dX0_tell_89 rfl (lv_at hl 0 rfl) ?_
    refine lv_iconst (v := (1 : Int32)) hx hb dX0_tell_90 (by decide) ?_
    replace z := ob z
    obtain ⟨b3, zb3, z⟩ := z
    obtain ⟨yb3, zb3⟩ := rcv_e zb3
    replace z := ob z
    obtain ⟨x4, zx4, z⟩ := z
    refine c_calli hH hS hRM (fun _ _ f1 f2 => va_runV (b := b3) (As := [.int (1 : Int32)]) (rest := []) S (metX0_refuses zx4) (cwV 1 hts (lw_V q552 q554 qs1 q167 q555) rfl rfl rfl (by decide +kernel) ⟨(Nat.le_of_ble_eq_true rfl), (Nat.le_of_ble_eq_true rfl)⟩) (c_preV hG hH hS (ci := 0) rfl zb3) rfl rfl hl.1 (by rw [yb3]; rfl) (lv_room (Nat.le_of_ble_eq_true rfl)) dX0_tell_91 ⟨f1, f2⟩) (fun H locs hH hS => ?_)
    exact c_iret S hr hlk rfl hH hS z dX0_tell_94
  replace z := ie c1 z
  refine c_aload_n hx hb dX0_tell_95 rfl (lv_at hl 0 rfl) ?_
  refine lv_iload_n hx hb dX0_tell_96 rfl (lv_at hl 1 rfl) ?_
  refine lv_iconst (v := (3 : Int32)) hx hb dX0_tell_97 (by decide) ?_
  refine lv_idiv hx hb dX0_tell_98 (by decide) ?_
  replace z := ob z
  obtain ⟨h2, zh2, z⟩ := z
  refine c_put S hG hH hS (ci := 0) (k := 15) rfl in_X0 tyX0 tyX0_ok nmX0 (Nat.le_of_ble_eq_true rfl) q495 (fun _ y => y) rfl (ty := .int) rfl rfl rfl zh2 dX0_tell_99 (fun H locs hH hS => ?_)
  refine lv_iconst (v := (0 : Int32)) hx hb dX0_tell_102 (by decide) ?_
  refine lv_istore_n (lv' := [(3, .int (0 : Int32)), (0, va_rf (some a0)), (1, .int a1), (2, .int a2)]) hx hb dX0_tell_103 rfl hl (by decide) rfl (fun ls hl => ?_)
  exact wX0_tell_104 S hr hlk hnm hG hRM FU h2 (0 : Int32) z _ _ hH hS _ (lv_sub hl [1, 0] rfl)
set_option maxHeartbeats 4000000 in
theorem wX0_tell_29 {p : Program} {l : Launch} {e : Env} {s : State} {m : MethodId} {args : Array Value} {below : List Frame} {meth : Method} {c : Code} {A : Nat → Prop} {D : va_G} {ac : Nat → ClassId} {K : KE} {h0 : HS} {a0 : Nat} (S : CallFix p m c cX0_tell 4 s args lw_all RX0) (hr : meth.sig.returnType = some .int) (hlk : meth.locks = false) (hnm : meth.name = "tell") (hG : GK A D ac K s) (hRM : RM K s (rmC 4 61 K h0)) {x : HS × Int32} : ∀ (n : Nat) (h : HS) (a1 : Int32) (a2 : Int32) (a3 : Int32), fX0_tell_29 K a0 n h a1 a2 a3 = some x → cGo p l e (rmC 4 61 K h0) s m args below meth c A D ac K (MQ below (cQi A D ac K x) args s (K.2.2.1 - h0.2.1) (K.2.2.2 - h0.2.2) A) 4 29 [(0, va_rf (some a0)), (1, .int a1), (2, .int a2), (3, .int a3)] [] h := by
  obtain ⟨hx, hb, hml, hown, hts⟩ := id S
  intro n
  induction n with
  | zero => intro h a1 a2 a3 z; cases z
  | succ n ih =>
    intro h a1 a2 a3 z H locs hH hS ls hl
    rw [fX0_tell_29] at z
    refine lv_iload_n hx hb dX0_tell_29 rfl (lv_at hl 3 rfl) ?_
    refine lv_iload_n hx hb dX0_tell_30 rfl (lv_at hl 1 rfl) ?_
    refine lv_icmp_ge (tgt := 85) hx hb dX0_tell_31 (by decide) (fun c1 => ?_) (fun c1 => ?_)
    · replace z := it c1 z
      exact wX0_tell_85 S hr hlk hnm hG hRM h a1 a2 z _ _ hH hS _ (lv_sub hl [0, 1, 2] rfl)
    replace z := ie c1 z
    refine lv_iload_n hx hb dX0_tell_34 rfl (lv_at hl 2 rfl) ?_
    refine lv_if_eq (tgt := 85) hx hb dX0_tell_35 (by decide) (fun c2 => ?_) (fun c2 => ?_)
    · replace z := it c2 z
      exact wX0_tell_85 S hr hlk hnm hG hRM h a1 a2 z _ _ hH hS _ (lv_sub hl [0, 1, 2] rfl)
    replace z := ie c2 z
    refine c_aload_n hx hb dX0_tell_38 rfl (lv_at hl 0 rfl) ?_
    refine lv_iload_n hx hb dX0_tell_39 rfl (lv_at hl 3 rfl) ?_
    replace z := ob z
    obtain ⟨b3, zb3, z⟩ := z
    obtain ⟨yb3, zb3⟩ := rcv_e zb3
    replace z := ob z
    obtain ⟨x4, zx4, z⟩ := z
    refine c_calli hH hS hRM (fun _ _ f1 f2 => va_runV (b := b3) (As := [.int a3]) (rest := []) S (metX0_byteAt zx4) (cwV 1 hts (lw_V q1588 q1590 qs56 q167 q1591) rfl rfl rfl (by decide +kernel) ⟨(Nat.le_of_ble_eq_true rfl), (Nat.le_of_ble_eq_true rfl)⟩) (c_preV hG hH hS (ci := 0) rfl zb3) rfl rfl hl.1 (by rw [yb3]; rfl) (lv_room (Nat.le_of_ble_eq_true rfl)) dX0_tell_40 ⟨f1, f2⟩) (fun H locs hH hS => ?_)
    refine lv_bipush (v := (24 : Int32)) hx hb dX0_tell_43 (by decide) ?_
    refine lv_icmp_ge (tgt := 77) hx hb dX0_tell_45 (by decide) (fun c5 => ?_) (fun c5 => ?_)
    · replace z := it c5 z
      exact wX0_tell_77 S hr hlk hnm hG hRM ih h a1 a3 z _ _ hH hS _ (lv_sub hl [0, 1, 3] rfl)
    replace z := ie c5 z
    refine c_aload_n hx hb dX0_tell_48 rfl (lv_at hl 0 rfl) ?_
    refine c_aload_n hx hb dX0_tell_49 rfl (lv_at hl 0 rfl) ?_
    refine lv_iload_n hx hb dX0_tell_50 rfl (lv_at hl 3 rfl) ?_
    refine lv_iconst (v := (1 : Int32)) hx hb dX0_tell_51 (by decide) ?_
    refine lv_iadd hx hb dX0_tell_52 ?_
    replace z := ob z
    obtain ⟨b6, zb6, z⟩ := z
    obtain ⟨yb6, zb6⟩ := rcv_e zb6
    replace z := ob z
    obtain ⟨x7, zx7, z⟩ := z
    refine c_calli hH hS hRM (fun _ _ f1 f2 => va_runV (b := b6) (As := [.int (a3 + (1 : Int32))]) (rest := [va_rf (some a0)]) S (metX0_byteAt zx7) (cwV 1 hts (lw_V q1588 q1590 qs56 q167 q1591) rfl rfl rfl (by decide +kernel) ⟨(Nat.le_of_ble_eq_true rfl), (Nat.le_of_ble_eq_true rfl)⟩) (c_preV hG hH hS (ci := 0) rfl zb6) rfl rfl hl.1 (by rw [yb6]; rfl) (lv_room (Nat.le_of_ble_eq_true rfl)) dX0_tell_53 ⟨f1, f2⟩) (fun H locs hH hS => ?_)
    replace z := ob z
    obtain ⟨b8, zb8, z⟩ := z
    obtain ⟨yb8, zb8⟩ := rcv_e zb8
    replace z := ob z
    obtain ⟨x9, zx9, z⟩ := z
    refine c_calli hH hS hRM (fun _ _ f1 f2 => va_runV (b := b8) (As := [.int x7]) (rest := []) S (metX0_isFilm zx9) (cwV 1 hts (lw_V q1323 q1325 qs39 q167 q1326) rfl rfl rfl (by decide +kernel) ⟨(Nat.le_of_ble_eq_true rfl), (Nat.le_of_ble_eq_true rfl)⟩) (c_preV hG hH hS (ci := 0) rfl zb8) rfl rfl hl.1 (by rw [yb8]; rfl) (lv_room (Nat.le_of_ble_eq_true rfl)) dX0_tell_56 ⟨f1, f2⟩) (fun H locs hH hS => ?_)
    refine lv_if_eq (tgt := 77) hx hb dX0_tell_59 (by decide) (fun c10 => ?_) (fun c10 => ?_)
    · replace z := it c10 z
      exact wX0_tell_77 S hr hlk hnm hG hRM ih h a1 a3 z _ _ hH hS _ (lv_sub hl [0, 1, 3] rfl)
    replace z := ie c10 z
    refine c_aload_n hx hb dX0_tell_62 rfl (lv_at hl 0 rfl) ?_
    refine lv_iload_n hx hb dX0_tell_63 rfl (lv_at hl 3 rfl) ?_
    refine lv_iconst (v := (2 : Int32)) hx hb dX0_tell_64 (by decide) ?_
    refine lv_iadd hx hb dX0_tell_65 ?_
    replace z := ob z
    obtain ⟨b11, zb11, z⟩ := z
    obtain ⟨yb11, zb11⟩ := rcv_e zb11
    replace z := ob z
    obtain ⟨x12, zx12, z⟩ := z
    refine c_calli hH hS hRM (fun _ _ f1 f2 => va_runV (b := b11) (As := [.int (a3 + (2 : Int32))]) (rest := []) S (metX0_byteAt zx12) (cwV 1 hts (lw_V q1588 q1590 qs56 q167 q1591) rfl rfl rfl (by decide +kernel) ⟨(Nat.le_of_ble_eq_true rfl), (Nat.le_of_ble_eq_true rfl)⟩) (c_preV hG hH hS (ci := 0) rfl zb11) rfl rfl hl.1 (by rw [yb11]; rfl) (lv_room (Nat.le_of_ble_eq_true rfl)) dX0_tell_66 ⟨f1, f2⟩) (fun H locs hH hS => ?_)
    refine lv_iconst (v := (2 : Int32)) hx hb dX0_tell_69 (by decide) ?_
    refine lv_icmp_ge (tgt := 77) hx hb dX0_tell_70 (by decide) (fun c13 => ?_) (fun c13 => ?_)
    · replace z := it c13 z
      exact wX0_tell_77 S hr hlk hnm hG hRM ih h a1 a3 z _ _ hH hS _ (lv_sub hl [0, 1, 3] rfl)
    replace z := ie c13 z
    refine lv_iconst (v := (1 : Int32)) hx hb dX0_tell_73 (by decide) ?_
    refine lv_goto (tgt := 78) hx hb dX0_tell_74 (by decide) ?_
    exact wX0_tell_78 S hr hlk hnm hG hRM ih h a1 a3 (1 : Int32) z _ _ hH hS _ (lv_sub hl [0, 1, 3] rfl)
set_option maxHeartbeats 4000000 in
theorem wX0_tell_26 {p : Program} {l : Launch} {e : Env} {s : State} {m : MethodId} {args : Array Value} {below : List Frame} {meth : Method} {c : Code} {A : Nat → Prop} {D : va_G} {ac : Nat → ClassId} {K : KE} {h0 : HS} {a0 : Nat} (S : CallFix p m c cX0_tell 4 s args lw_all RX0) (hr : meth.sig.returnType = some .int) (hlk : meth.locks = false) (hnm : meth.name = "tell") (hG : GK A D ac K s) (hRM : RM K s (rmC 4 61 K h0)) {x : HS × Int32} : ∀ (h : HS) (a1 : Int32) (t0 : Int32), fX0_tell_26 K a0 h a1 t0 = some x → cGo p l e (rmC 4 61 K h0) s m args below meth c A D ac K (MQ below (cQi A D ac K x) args s (K.2.2.1 - h0.2.1) (K.2.2.2 - h0.2.2) A) 4 26 [(0, va_rf (some a0)), (1, .int a1)] [.int t0] h := by
  obtain ⟨hx, hb, hml, hown, hts⟩ := id S
  intro h a1 t0 z H locs hH hS ls hl
  unfold fX0_tell_26 at z
  refine lv_istore_n (lv' := [(2, .int t0), (0, va_rf (some a0)), (1, .int a1)]) hx hb dX0_tell_26 rfl hl (by decide) rfl (fun ls hl => ?_)
  refine lv_iconst (v := (0 : Int32)) hx hb dX0_tell_27 (by decide) ?_
  refine lv_istore_n (lv' := [(3, .int (0 : Int32)), (2, .int t0), (0, va_rf (some a0)), (1, .int a1)]) hx hb dX0_tell_28 rfl hl (by decide) rfl (fun ls hl => ?_)
  exact wX0_tell_29 S hr hlk hnm hG hRM FU h a1 t0 (0 : Int32) z _ _ hH hS _ (lv_sub hl [2, 3, 1, 0] rfl)
set_option maxHeartbeats 4000000 in
theorem wX0_tell_25 {p : Program} {l : Launch} {e : Env} {s : State} {m : MethodId} {args : Array Value} {below : List Frame} {meth : Method} {c : Code} {A : Nat → Prop} {D : va_G} {ac : Nat → ClassId} {K : KE} {h0 : HS} {a0 : Nat} (S : CallFix p m c cX0_tell 4 s args lw_all RX0) (hr : meth.sig.returnType = some .int) (hlk : meth.locks = false) (hnm : meth.name = "tell") (hG : GK A D ac K s) (hRM : RM K s (rmC 4 61 K h0)) {x : HS × Int32} : ∀ (h : HS) (a1 : Int32), fX0_tell_25 K a0 h a1 = some x → cGo p l e (rmC 4 61 K h0) s m args below meth c A D ac K (MQ below (cQi A D ac K x) args s (K.2.2.1 - h0.2.1) (K.2.2.2 - h0.2.2) A) 4 25 [(0, va_rf (some a0)), (1, .int a1)] [] h := by
  obtain ⟨hx, hb, hml, hown, hts⟩ := id S
  intro h a1 z H locs hH hS ls hl
  unfold fX0_tell_25 at z
  refine lv_iconst (v := (0 : Int32)) hx hb dX0_tell_25 (by decide) ?_
  exact wX0_tell_26 S hr hlk hnm hG hRM h a1 (0 : Int32) z _ _ hH hS _ (lv_sub hl [0, 1] rfl)
set_option maxHeartbeats 4000000 in
theorem metX0_tell {l : Launch} {A : Nat → Prop} {D : va_G} {ac : Nat → ClassId} {K : KE} {h : HS} {a0 : Nat} {x : HS × Int32} (z : fX0_tell K h a0 = some x) : Met l yX0_tell (ws_ yX0_tell cX0_tell 4 (some .int)) (rmC 4 61 K h) (cP A D ac K h [va_rf (some a0)]) (cQi A D ac K x) (K.2.2.1 - h.2.1) (K.2.2.2 - h.2.2) A := by
  refine c_entry (plainFor_of_name (by decide)) (Nat.le_of_ble_eq_true rfl) ?_
  intro p e s m below meth c S hr hlk hnm hG hRM hH hS ls hl
  replace hl : lv_has ls 4 [(0, va_rf (some a0))] := hl
  replace hnm : meth.name = "tell" := hnm
  replace S : CallFix p m c cX0_tell 4 s _ lw_all RX0 := S
  obtain ⟨hx, hb, hml, hown, hts⟩ := id S
  unfold fX0_tell at z
  refine c_aload_n hx hb dX0_tell_0 rfl (lv_at hl 0 rfl) ?_
  replace z := ob z
  obtain ⟨b1, zb1, z⟩ := z
  obtain ⟨yb1, zb1⟩ := rcv_e zb1
  replace z := ob z
  obtain ⟨x2, zx2, z⟩ := z
  refine c_calli hH hS hRM (fun _ _ f1 f2 => va_runV (b := b1) (As := []) (rest := []) S (metX0_taken zx2) (cwV 0 hts (lw_V q569 q571 qs3 q167 q572) rfl rfl rfl (by decide +kernel) ⟨(Nat.le_of_ble_eq_true rfl), (Nat.le_of_ble_eq_true rfl)⟩) (c_preV hG hH hS (ci := 0) rfl zb1) rfl rfl hl.1 (by rw [yb1]; rfl) (lv_room (Nat.le_of_ble_eq_true rfl)) dX0_tell_1 ⟨f1, f2⟩) (fun H locs hH hS => ?_)
  refine lv_istore_n (lv' := [(1, .int x2.2), (0, va_rf (some a0))]) hx hb dX0_tell_4 rfl hl (by decide) rfl (fun ls hl => ?_)
  refine lv_iload_n hx hb dX0_tell_5 rfl (lv_at hl 0 rfl) ?_
  refine lv_if_le (tgt := 25) hx hb dX0_tell_6 (by decide) (fun c3 => ?_) (fun c3 => ?_)
  · replace z := it c3 z
    exact wX0_tell_25 S hr hlk hnm hG hRM x2.1 x2.2 z _ _ hH hS _ (lv_sub hl [1, 0] rfl)
  replace z := ie c3 z
  refine lv_iload_n hx hb dX0_tell_9 rfl (lv_at hl 0 rfl) ?_
  refine lv_iconst (v := (3 : Int32)) hx hb dX0_tell_10 (by decide) ?_
  refine lv_irem hx hb dX0_tell_11 (by decide) ?_
  refine lv_if_ne (tgt := 25) hx hb dX0_tell_12 (by decide) (fun c4 => ?_) (fun c4 => ?_)
  · replace z := ie c4 z
    exact wX0_tell_25 S hr hlk hnm hG hRM x2.1 x2.2 z _ _ hH hS _ (lv_sub hl [1, 0] rfl)
  replace z := it c4 z
  refine lv_iload_n hx hb dX0_tell_15 rfl (lv_at hl 0 rfl) ?_
  refine lv_bipush (v := (48 : Int32)) hx hb dX0_tell_16 (by decide) ?_
  refine lv_icmp_gt (tgt := 25) hx hb dX0_tell_18 (by decide) (fun c5 => ?_) (fun c5 => ?_)
  · replace z := it c5 z
    exact wX0_tell_25 S hr hlk hnm hG hRM x2.1 x2.2 z _ _ hH hS _ (lv_sub hl [1, 0] rfl)
  replace z := ie c5 z
  refine lv_iconst (v := (1 : Int32)) hx hb dX0_tell_21 (by decide) ?_
  refine lv_goto (tgt := 26) hx hb dX0_tell_22 (by decide) ?_
  exact wX0_tell_26 S hr hlk hnm hG hRM x2.1 x2.2 (1 : Int32) z _ _ hH hS _ (lv_sub hl [1, 0] rfl)

set_option maxRecDepth 100000
/-! FourOnOne$Reader.most(ZI)V -/
def fX2_most (K : KE) (h : HS) (a0 : Nat) (a1 : Int32) (a2 : Int32) : Option (HS × (Nat ⊕ Unit)) :=
  if a1 = 0 then
    some (h, .inr ())
  else
  (rcv K h (some a0) 2).bind fun b2 =>
  (fX2_wrong K h b2 (5 : Int32) a2).bind fun x3 =>
  (rcv K x3.1 x3.2 3).bind fun q4 =>
  some (x3.1, .inl q4)
set_option maxHeartbeats 4000000 in
theorem metX2_most {l : Launch} {A : Nat → Prop} {D : va_G} {ac : Nat → ClassId} {K : KE} {h : HS} {a0 : Nat} {a1 : Int32} {a2 : Int32} {x : HS × (Nat ⊕ Unit)} (z : fX2_most K h a0 a1 a2 = some x) : vy_Met l yX2_most (ws_ yX2_most cX2_most 3 (none)) (rmC 2 22 K h) (cP A D ac K h [va_rf (some a0), .int a1, .int a2]) (tQv A D ac K x) (tX A D ac K x) (K.2.2.1 - h.2.1) (K.2.2.2 - h.2.2) A := by
  refine t_entry (by decide) (Nat.le_of_ble_eq_true rfl) ?_
  intro p e s m below meth c S hr hlk hnm hEx hG hRM hH hS ls hl
  replace hl : lv_has ls 3 [(0, va_rf (some a0)), (1, .int a1), (2, .int a2)] := hl
  replace hnm : meth.name = "most" := hnm
  replace S : CallFix p m c cX2_most 3 s _ lw_all RX2 := S
  obtain ⟨hx, hb, hml, hown, hts⟩ := id S
  unfold fX2_most at z
  refine lv_iload_n hx hb dX2_most_0 rfl (lv_at hl 1 rfl) ?_
  refine lv_if_eq (tgt := 11) hx hb dX2_most_1 (by decide) (fun c1 => ?_) (fun c1 => ?_)
  · replace z := it c1 z
    exact t_vret S hr hlk hH hS z dX2_most_11
  replace z := ie c1 z
  refine c_aload_n hx hb dX2_most_4 rfl (lv_at hl 0 rfl) ?_
  refine lv_iconst (v := (5 : Int32)) hx hb dX2_most_5 (by decide) ?_
  refine lv_iload_n hx hb dX2_most_6 rfl (lv_at hl 2 rfl) ?_
  replace z := ob z
  obtain ⟨b2, zb2, z⟩ := z
  obtain ⟨yb2, zb2⟩ := rcv_e zb2
  replace z := ob z
  obtain ⟨x3, zx3, z⟩ := z
  refine c_callq hH hS hRM (fun _ _ f1 f2 => va_runV (b := b2) (As := [.int (5 : Int32), .int a2]) (rest := []) S (metX2_wrong zx3) (cwV 2 hts (lw_V q591 q593 qs7 q172 q594) rfl rfl rfl (by decide +kernel) ⟨(Nat.le_of_ble_eq_true rfl), (Nat.le_of_ble_eq_true rfl)⟩) (c_preV hG hH hS (ci := 2) rfl zb2) rfl rfl hl.1 (by rw [yb2]; rfl) (lv_room (Nat.le_of_ble_eq_true rfl)) dX2_most_7 ⟨f1, f2⟩) (fun H locs hH hS => ?_)
  replace z := ob z
  obtain ⟨q4, zq4, z⟩ := z
  exact t_throw S hG hEx hlk zq4 hH hS z dX2_most_10
/-! FourOnOne$Reader.parted()V -/
def fX2_parted_32 (K : KE) (a0 : Nat) (h : HS) : Option (HS × (Nat ⊕ Unit)) :=
  (gI K h (some a0) 2 2).bind fun v1 =>
  (rcv K h (some a0) 2).bind fun b2 =>
  (fX2_wrong K h b2 (1 : Int32) v1).bind fun x3 =>
  (rcv K x3.1 x3.2 3).bind fun q4 =>
  some (x3.1, .inl q4)
def fX2_parted (K : KE) (h : HS) (a0 : Nat) : Option (HS × (Nat ⊕ Unit)) :=
  (gI K h (some a0) 2 2).bind fun v1 =>
  (rcv K h (some a0) 2).bind fun b2 =>
  (fX2_byteAt K h b2 (v1 - (1 : Int32))).bind fun x3 =>
  (fX0_isLetter K h x3).bind fun x4 =>
  if x4 = 0 then
    (gI K h (some a0) 2 2).bind fun v6 =>
    (rcv K h (some a0) 2).bind fun b7 =>
    (fX2_byteAt K h b7 (v6 - (1 : Int32))).bind fun x8 =>
    (fX0_isDigit K h x8).bind fun x9 =>
    if x9 = 0 then
      some (h, .inr ())
    else
    fX2_parted_32 K a0 h
  else
  fX2_parted_32 K a0 h
set_option maxHeartbeats 4000000 in
theorem wX2_parted_32 {p : Program} {l : Launch} {e : Env} {s : State} {m : MethodId} {args : Array Value} {below : List Frame} {meth : Method} {c : Code} {A : Nat → Prop} {D : va_G} {ac : Nat → ClassId} {K : KE} {h0 : HS} {a0 : Nat} (S : CallFix p m c cX2_parted 1 s args lw_all RX2) (hr : meth.sig.returnType = none) (hlk : meth.locks = false) (hnm : meth.name = "parted") (hEx : ∀ x ∈ c.exceptionTable.toList, False) (hG : GK A D ac K s) (hRM : RM K s (rmC 2 22 K h0)) {x : HS × (Nat ⊕ Unit)} : ∀ (h : HS), fX2_parted_32 K a0 h = some x → cGo p l e (rmC 2 22 K h0) s m args below meth c A D ac K (vy_MQ below (tQv A D ac K x) (tX A D ac K x) args s (K.2.2.1 - h0.2.1) (K.2.2.2 - h0.2.2) A) 1 32 [(0, va_rf (some a0))] [] h := by
  obtain ⟨hx, hb, hml, hown, hts⟩ := id S
  intro h z H locs hH hS ls hl
  unfold fX2_parted_32 at z
  refine c_aload_n hx hb dX2_parted_32 rfl (lv_at hl 0 rfl) ?_
  refine lv_iconst (v := (1 : Int32)) hx hb dX2_parted_33 (by decide) ?_
  refine c_aload_n hx hb dX2_parted_34 rfl (lv_at hl 0 rfl) ?_
  replace z := ob z
  obtain ⟨v1, zv1, z⟩ := z
  obtain ⟨fsv1, yv1, zv1⟩ := gI_e zv1
  refine c_get S hG hH (ci := 2) (k := 2) rfl in_X2 (Nat.le_of_ble_eq_true rfl) q384 (fun _ y => y) yv1 zv1 dX2_parted_35 ?_
  replace z := ob z
  obtain ⟨b2, zb2, z⟩ := z
  obtain ⟨yb2, zb2⟩ := rcv_e zb2
  replace z := ob z
  obtain ⟨x3, zx3, z⟩ := z
  refine c_callq hH hS hRM (fun _ _ f1 f2 => va_runV (b := b2) (As := [.int (1 : Int32), .int v1]) (rest := []) S (metX2_wrong zx3) (cwV 2 hts (lw_V q591 q593 qs7 q172 q594) rfl rfl rfl (by decide +kernel) ⟨(Nat.le_of_ble_eq_true rfl), (Nat.le_of_ble_eq_true rfl)⟩) (c_preV hG hH hS (ci := 2) rfl zb2) rfl rfl hl.1 (by rw [yb2]; rfl) (lv_room (Nat.le_of_ble_eq_true rfl)) dX2_parted_38 ⟨f1, f2⟩) (fun H locs hH hS => ?_)
  replace z := ob z
  obtain ⟨q4, zq4, z⟩ := z
  exact t_throw S hG hEx hlk zq4 hH hS z dX2_parted_41
set_option maxHeartbeats 4000000 in
theorem metX2_parted {l : Launch} {A : Nat → Prop} {D : va_G} {ac : Nat → ClassId} {K : KE} {h : HS} {a0 : Nat} {x : HS × (Nat ⊕ Unit)} (z : fX2_parted K h a0 = some x) : vy_Met l yX2_parted (ws_ yX2_parted cX2_parted 1 (none)) (rmC 2 22 K h) (cP A D ac K h [va_rf (some a0)]) (tQv A D ac K x) (tX A D ac K x) (K.2.2.1 - h.2.1) (K.2.2.2 - h.2.2) A := by
  refine t_entry (by decide) (Nat.le_of_ble_eq_true rfl) ?_
  intro p e s m below meth c S hr hlk hnm hEx hG hRM hH hS ls hl
  replace hl : lv_has ls 1 [(0, va_rf (some a0))] := hl
  replace hnm : meth.name = "parted" := hnm
  replace S : CallFix p m c cX2_parted 1 s _ lw_all RX2 := S
  obtain ⟨hx, hb, hml, hown, hts⟩ := id S
  unfold fX2_parted at z
  refine c_aload_n hx hb dX2_parted_0 rfl (lv_at hl 0 rfl) ?_
  refine c_aload_n hx hb dX2_parted_1 rfl (lv_at hl 0 rfl) ?_
  replace z := ob z
  obtain ⟨v1, zv1, z⟩ := z
  obtain ⟨fsv1, yv1, zv1⟩ := gI_e zv1
  refine c_get S hG hH (ci := 2) (k := 2) rfl in_X2 (Nat.le_of_ble_eq_true rfl) q384 (fun _ y => y) yv1 zv1 dX2_parted_2 ?_
  refine lv_iconst (v := (1 : Int32)) hx hb dX2_parted_5 (by decide) ?_
  refine lv_isub hx hb dX2_parted_6 ?_
  replace z := ob z
  obtain ⟨b2, zb2, z⟩ := z
  obtain ⟨yb2, zb2⟩ := rcv_e zb2
  replace z := ob z
  obtain ⟨x3, zx3, z⟩ := z
  refine c_calli hH hS hRM (fun _ _ f1 f2 => va_runV (b := b2) (As := [.int (v1 - (1 : Int32))]) (rest := []) S (metX2_byteAt zx3) (cwV 1 hts (lw_V q583 q585 qs5 q172 q586) rfl rfl rfl (by decide +kernel) ⟨(Nat.le_of_ble_eq_true rfl), (Nat.le_of_ble_eq_true rfl)⟩) (c_preV hG hH hS (ci := 2) rfl zb2) rfl rfl hl.1 (by rw [yb2]; rfl) (lv_room (Nat.le_of_ble_eq_true rfl)) dX2_parted_7 ⟨f1, f2⟩) (fun H locs hH hS => ?_)
  replace z := ob z
  obtain ⟨x4, zx4, z⟩ := z
  refine c_calli hH hS hRM (fun _ _ f1 f2 => va_runSN (As := [.int x3]) (rest := []) S (metX0_isLetter zx4) ⟨va_cnB 1 hts (lw_meth q601) rfl rfl rfl (hG.2.1.2.1 _ _ _ _ q599) (hts _ q167) (by decide +kernel) ⟨(Nat.le_of_ble_eq_true rfl), (Nat.le_of_ble_eq_true rfl)⟩, hts _ q600, trivial⟩ (c_pre hG hH hS) rfl rfl hl.1 rfl (lv_room (Nat.le_of_ble_eq_true rfl)) dX2_parted_10 ⟨f1, f2⟩) (fun H locs hH hS => ?_)
  refine lv_if_ne (tgt := 32) hx hb dX2_parted_13 (by decide) (fun c5 => ?_) (fun c5 => ?_)
  · replace z := ie c5 z
    exact wX2_parted_32 S hr hlk hnm hEx hG hRM h z _ _ hH hS _ (lv_sub hl [0] rfl)
  replace z := it c5 z
  refine c_aload_n hx hb dX2_parted_16 rfl (lv_at hl 0 rfl) ?_
  refine c_aload_n hx hb dX2_parted_17 rfl (lv_at hl 0 rfl) ?_
  replace z := ob z
  obtain ⟨v6, zv6, z⟩ := z
  obtain ⟨fsv6, yv6, zv6⟩ := gI_e zv6
  refine c_get S hG hH (ci := 2) (k := 2) rfl in_X2 (Nat.le_of_ble_eq_true rfl) q384 (fun _ y => y) yv6 zv6 dX2_parted_18 ?_
  refine lv_iconst (v := (1 : Int32)) hx hb dX2_parted_21 (by decide) ?_
  refine lv_isub hx hb dX2_parted_22 ?_
  replace z := ob z
  obtain ⟨b7, zb7, z⟩ := z
  obtain ⟨yb7, zb7⟩ := rcv_e zb7
  replace z := ob z
  obtain ⟨x8, zx8, z⟩ := z
  refine c_calli hH hS hRM (fun _ _ f1 f2 => va_runV (b := b7) (As := [.int (v6 - (1 : Int32))]) (rest := []) S (metX2_byteAt zx8) (cwV 1 hts (lw_V q583 q585 qs5 q172 q586) rfl rfl rfl (by decide +kernel) ⟨(Nat.le_of_ble_eq_true rfl), (Nat.le_of_ble_eq_true rfl)⟩) (c_preV hG hH hS (ci := 2) rfl zb7) rfl rfl hl.1 (by rw [yb7]; rfl) (lv_room (Nat.le_of_ble_eq_true rfl)) dX2_parted_23 ⟨f1, f2⟩) (fun H locs hH hS => ?_)
  replace z := ob z
  obtain ⟨x9, zx9, z⟩ := z
  refine c_calli hH hS hRM (fun _ _ f1 f2 => va_runSN (As := [.int x8]) (rest := []) S (metX0_isDigit zx9) ⟨va_cnB 1 hts (lw_meth q608) rfl rfl rfl (hG.2.1.2.1 _ _ _ _ q606) (hts _ q167) (by decide +kernel) ⟨(Nat.le_of_ble_eq_true rfl), (Nat.le_of_ble_eq_true rfl)⟩, hts _ q607, trivial⟩ (c_pre hG hH hS) rfl rfl hl.1 rfl (lv_room (Nat.le_of_ble_eq_true rfl)) dX2_parted_26 ⟨f1, f2⟩) (fun H locs hH hS => ?_)
  refine lv_if_eq (tgt := 42) hx hb dX2_parted_29 (by decide) (fun c10 => ?_) (fun c10 => ?_)
  · replace z := it c10 z
    exact t_vret S hr hlk hH hS z dX2_parted_42
  replace z := ie c10 z
  exact wX2_parted_32 S hr hlk hnm hEx hG hRM h z _ _ hH hS _ (lv_sub hl [0] rfl)
/-! FourOnOne$Reader.number(II)I -/
def fX2_number_2_34 (K : KE) (a0 : Nat) : Nat → HS → Int32 → Int32 → Int32 → Option (HS × (Nat ⊕ Int32))
  | 0, _, _, _, _ => none
  | n + 1, h, a1, a2, a3 =>
    (gI K h (some a0) 2 2).bind fun v1 =>
    (rcv K h (some a0) 2).bind fun b2 =>
    (fX2_byteAt K h b2 v1).bind fun x3 =>
    (fX0_isDigit K h x3).bind fun x4 =>
    if x4 = 0 then
      (fX0_is K h a3 a1 a2).bind fun x6 =>
      if x6 = 0 then
        (gI K h (some a0) 2 3).bind fun v8 =>
        (rcv K h (some a0) 2).bind fun b9 =>
        (fX2_wrong K h b9 (2 : Int32) v8).bind fun x10 =>
        (rcv K x10.1 x10.2 3).bind fun q11 =>
        some (x10.1, .inl q11)
      else
      some (h, .inr a3)
    else
    (gI K h (some a0) 2 2).bind fun v12 =>
    (gI K h (some a0) 2 3).bind fun v13 =>
    if (v12 - v13) = (4 : Int32) then
      (gI K h (some a0) 2 2).bind fun v20 =>
      (rcv K h (some a0) 2).bind fun b21 =>
      (fX2_wrong K h b21 (1 : Int32) v20).bind fun x22 =>
      (rcv K x22.1 x22.2 3).bind fun q23 =>
      some (x22.1, .inl q23)
    else
    (gI K h (some a0) 2 2).bind fun v15 =>
    (rcv K h (some a0) 2).bind fun b16 =>
    (fX2_byteAt K h b16 v15).bind fun x17 =>
    (gI K h (some a0) 2 2).bind fun v18 =>
    (pV h (some a0) 2 2 (.int (v18 + (1 : Int32)))).bind fun h19 =>
    fX2_number_2_34 K a0 n h19 a1 a2 ((((10 : Int32) * a3) + x17) - (48 : Int32))
def fX2_number_2 (K : KE) (h : HS) (a0 : Nat) (a1 : Int32) (a2 : Int32) : Option (HS × (Nat ⊕ Int32)) :=
  (rcv K h (some a0) 2).bind fun b1 =>
  (fX2_here K h b1).bind fun x2 =>
  (fX0_isDigit K x2.1 x2.2).bind fun x3 =>
  if x3 = 0 then
    (gI K x2.1 (some a0) 2 2).bind fun v12 =>
    (rcv K x2.1 (some a0) 2).bind fun b13 =>
    (fX2_wrong K x2.1 b13 (1 : Int32) v12).bind fun x14 =>
    (rcv K x14.1 x14.2 3).bind fun q15 =>
    some (x14.1, .inl q15)
  else
  (rcv K x2.1 (some a0) 2).bind fun b5 =>
  (fX2_parted K x2.1 b5).bind fun x6 =>
  tb x6 (fun q7 => some (x6.1, .inl q7)) fun v8 =>
  (gI K x6.1 (some a0) 2 2).bind fun v10 =>
  (pV x6.1 (some a0) 2 3 (.int v10)).bind fun h11 =>
  fX2_number_2_34 K a0 FU h11 a1 a2 (0 : Int32)
set_option maxHeartbeats 4000000 in
theorem wX2_number_2_34 {p : Program} {l : Launch} {e : Env} {s : State} {m : MethodId} {args : Array Value} {below : List Frame} {meth : Method} {c : Code} {A : Nat → Prop} {D : va_G} {ac : Nat → ClassId} {K : KE} {h0 : HS} {a0 : Nat} (S : CallFix p m c cX2_number_2 4 s args lw_all RX2) (hr : meth.sig.returnType = some .int) (hlk : meth.locks = false) (hnm : meth.name = "number") (hEx : ∀ x ∈ c.exceptionTable.toList, False) (hG : GK A D ac K s) (hRM : RM K s (rmC 3 42 K h0)) {x : HS × (Nat ⊕ Int32)} : ∀ (n : Nat) (h : HS) (a1 : Int32) (a2 : Int32) (a3 : Int32), fX2_number_2_34 K a0 n h a1 a2 a3 = some x → cGo p l e (rmC 3 42 K h0) s m args below meth c A D ac K (vy_MQ below (tQi A D ac K x) (tX A D ac K x) args s (K.2.2.1 - h0.2.1) (K.2.2.2 - h0.2.2) A) 4 34 [(0, va_rf (some a0)), (1, .int a1), (2, .int a2), (3, .int a3)] [] h := by
  obtain ⟨hx, hb, hml, hown, hts⟩ := id S
  intro n
  induction n with
  | zero => intro h a1 a2 a3 z; cases z
  | succ n ih =>
    intro h a1 a2 a3 z H locs hH hS ls hl
    rw [fX2_number_2_34] at z
    refine c_aload_n hx hb dX2_number_2_34 rfl (lv_at hl 0 rfl) ?_
    refine c_aload_n hx hb dX2_number_2_35 rfl (lv_at hl 0 rfl) ?_
    replace z := ob z
    obtain ⟨v1, zv1, z⟩ := z
    obtain ⟨fsv1, yv1, zv1⟩ := gI_e zv1
    refine c_get S hG hH (ci := 2) (k := 2) rfl in_X2 (Nat.le_of_ble_eq_true rfl) q384 (fun _ y => y) yv1 zv1 dX2_number_2_36 ?_
    replace z := ob z
    obtain ⟨b2, zb2, z⟩ := z
    obtain ⟨yb2, zb2⟩ := rcv_e zb2
    replace z := ob z
    obtain ⟨x3, zx3, z⟩ := z
    refine c_calli hH hS hRM (fun _ _ f1 f2 => va_runV (b := b2) (As := [.int v1]) (rest := []) S (metX2_byteAt zx3) (cwV 1 hts (lw_V q583 q585 qs5 q172 q586) rfl rfl rfl (by decide +kernel) ⟨(Nat.le_of_ble_eq_true rfl), (Nat.le_of_ble_eq_true rfl)⟩) (c_preV hG hH hS (ci := 2) rfl zb2) rfl rfl hl.1 (by rw [yb2]; rfl) (lv_room (Nat.le_of_ble_eq_true rfl)) dX2_number_2_39 ⟨f1, f2⟩) (fun H locs hH hS => ?_)
    replace z := ob z
    obtain ⟨x4, zx4, z⟩ := z
    refine c_calli hH hS hRM (fun _ _ f1 f2 => va_runSN (As := [.int x3]) (rest := []) S (metX0_isDigit zx4) ⟨va_cnB 1 hts (lw_meth q608) rfl rfl rfl (hG.2.1.2.1 _ _ _ _ q606) (hts _ q167) (by decide +kernel) ⟨(Nat.le_of_ble_eq_true rfl), (Nat.le_of_ble_eq_true rfl)⟩, hts _ q607, trivial⟩ (c_pre hG hH hS) rfl rfl hl.1 rfl (lv_room (Nat.le_of_ble_eq_true rfl)) dX2_number_2_42 ⟨f1, f2⟩) (fun H locs hH hS => ?_)
    refine lv_if_eq (tgt := 101) hx hb dX2_number_2_45 (by decide) (fun c5 => ?_) (fun c5 => ?_)
    · replace z := it c5 z
      refine lv_iload_n hx hb dX2_number_2_101 rfl (lv_at hl 3 rfl) ?_
      refine lv_iload_n hx hb dX2_number_2_102 rfl (lv_at hl 1 rfl) ?_
      refine lv_iload_n hx hb dX2_number_2_103 rfl (lv_at hl 2 rfl) ?_
      replace z := ob z
      obtain ⟨x6, zx6, z⟩ := z
      refine c_calli hH hS hRM (fun _ _ f1 f2 => va_runSN (As := [.int a3, .int a1, .int a2]) (rest := []) S (metX0_is zx6) ⟨va_cnB 3 hts (lw_meth q925) rfl rfl rfl (hG.2.1.2.1 _ _ _ _ q923) (hts _ q167) (by decide +kernel) ⟨(Nat.le_of_ble_eq_true rfl), (Nat.le_of_ble_eq_true rfl)⟩, hts _ q924, trivial⟩ (c_pre hG hH hS) rfl rfl hl.1 rfl (lv_room (Nat.le_of_ble_eq_true rfl)) dX2_number_2_104 ⟨f1, f2⟩) (fun H locs hH hS => ?_)
      refine lv_if_ne (tgt := 120) hx hb dX2_number_2_107 (by decide) (fun c7 => ?_) (fun c7 => ?_)
      · replace z := ie c7 z
        refine lv_iload_n hx hb dX2_number_2_120 rfl (lv_at hl 3 rfl) ?_
        exact t_iret S hr hlk rfl hH hS z dX2_number_2_121
      replace z := it c7 z
      refine c_aload_n hx hb dX2_number_2_110 rfl (lv_at hl 0 rfl) ?_
      refine lv_iconst (v := (2 : Int32)) hx hb dX2_number_2_111 (by decide) ?_
      refine c_aload_n hx hb dX2_number_2_112 rfl (lv_at hl 0 rfl) ?_
      replace z := ob z
      obtain ⟨v8, zv8, z⟩ := z
      obtain ⟨fsv8, yv8, zv8⟩ := gI_e zv8
      refine c_get S hG hH (ci := 2) (k := 3) rfl in_X2 (Nat.le_of_ble_eq_true rfl) q385 (fun _ y => y) yv8 zv8 dX2_number_2_113 ?_
      replace z := ob z
      obtain ⟨b9, zb9, z⟩ := z
      obtain ⟨yb9, zb9⟩ := rcv_e zb9
      replace z := ob z
      obtain ⟨x10, zx10, z⟩ := z
      refine c_callq hH hS hRM (fun _ _ f1 f2 => va_runV (b := b9) (As := [.int (2 : Int32), .int v8]) (rest := []) S (metX2_wrong zx10) (cwV 2 hts (lw_V q591 q593 qs7 q172 q594) rfl rfl rfl (by decide +kernel) ⟨(Nat.le_of_ble_eq_true rfl), (Nat.le_of_ble_eq_true rfl)⟩) (c_preV hG hH hS (ci := 2) rfl zb9) rfl rfl hl.1 (by rw [yb9]; rfl) (lv_room (Nat.le_of_ble_eq_true rfl)) dX2_number_2_116 ⟨f1, f2⟩) (fun H locs hH hS => ?_)
      replace z := ob z
      obtain ⟨q11, zq11, z⟩ := z
      exact t_throw S hG hEx hlk zq11 hH hS z dX2_number_2_119
    replace z := ie c5 z
    refine c_aload_n hx hb dX2_number_2_48 rfl (lv_at hl 0 rfl) ?_
    replace z := ob z
    obtain ⟨v12, zv12, z⟩ := z
    obtain ⟨fsv12, yv12, zv12⟩ := gI_e zv12
    refine c_get S hG hH (ci := 2) (k := 2) rfl in_X2 (Nat.le_of_ble_eq_true rfl) q384 (fun _ y => y) yv12 zv12 dX2_number_2_49 ?_
    refine c_aload_n hx hb dX2_number_2_52 rfl (lv_at hl 0 rfl) ?_
    replace z := ob z
    obtain ⟨v13, zv13, z⟩ := z
    obtain ⟨fsv13, yv13, zv13⟩ := gI_e zv13
    refine c_get S hG hH (ci := 2) (k := 3) rfl in_X2 (Nat.le_of_ble_eq_true rfl) q385 (fun _ y => y) yv13 zv13 dX2_number_2_53 ?_
    refine lv_isub hx hb dX2_number_2_56 ?_
    refine lv_iconst (v := (4 : Int32)) hx hb dX2_number_2_57 (by decide) ?_
    refine lv_icmp_ne (tgt := 71) hx hb dX2_number_2_58 (by decide) (fun c14 => ?_) (fun c14 => ?_)
    rotate_left 1
    · replace z := it c14 z
      refine c_aload_n hx hb dX2_number_2_61 rfl (lv_at hl 0 rfl) ?_
      refine lv_iconst (v := (1 : Int32)) hx hb dX2_number_2_62 (by decide) ?_
      refine c_aload_n hx hb dX2_number_2_63 rfl (lv_at hl 0 rfl) ?_
      replace z := ob z
      obtain ⟨v20, zv20, z⟩ := z
      obtain ⟨fsv20, yv20, zv20⟩ := gI_e zv20
      refine c_get S hG hH (ci := 2) (k := 2) rfl in_X2 (Nat.le_of_ble_eq_true rfl) q384 (fun _ y => y) yv20 zv20 dX2_number_2_64 ?_
      replace z := ob z
      obtain ⟨b21, zb21, z⟩ := z
      obtain ⟨yb21, zb21⟩ := rcv_e zb21
      replace z := ob z
      obtain ⟨x22, zx22, z⟩ := z
      refine c_callq hH hS hRM (fun _ _ f1 f2 => va_runV (b := b21) (As := [.int (1 : Int32), .int v20]) (rest := []) S (metX2_wrong zx22) (cwV 2 hts (lw_V q591 q593 qs7 q172 q594) rfl rfl rfl (by decide +kernel) ⟨(Nat.le_of_ble_eq_true rfl), (Nat.le_of_ble_eq_true rfl)⟩) (c_preV hG hH hS (ci := 2) rfl zb21) rfl rfl hl.1 (by rw [yb21]; rfl) (lv_room (Nat.le_of_ble_eq_true rfl)) dX2_number_2_67 ⟨f1, f2⟩) (fun H locs hH hS => ?_)
      replace z := ob z
      obtain ⟨q23, zq23, z⟩ := z
      exact t_throw S hG hEx hlk zq23 hH hS z dX2_number_2_70
    replace z := ie c14 z
    refine lv_bipush (v := (10 : Int32)) hx hb dX2_number_2_71 (by decide) ?_
    refine lv_iload_n hx hb dX2_number_2_73 rfl (lv_at hl 3 rfl) ?_
    refine lv_imul hx hb dX2_number_2_74 ?_
    refine c_aload_n hx hb dX2_number_2_75 rfl (lv_at hl 0 rfl) ?_
    refine c_aload_n hx hb dX2_number_2_76 rfl (lv_at hl 0 rfl) ?_
    replace z := ob z
    obtain ⟨v15, zv15, z⟩ := z
    obtain ⟨fsv15, yv15, zv15⟩ := gI_e zv15
    refine c_get S hG hH (ci := 2) (k := 2) rfl in_X2 (Nat.le_of_ble_eq_true rfl) q384 (fun _ y => y) yv15 zv15 dX2_number_2_77 ?_
    replace z := ob z
    obtain ⟨b16, zb16, z⟩ := z
    obtain ⟨yb16, zb16⟩ := rcv_e zb16
    replace z := ob z
    obtain ⟨x17, zx17, z⟩ := z
    refine c_calli hH hS hRM (fun _ _ f1 f2 => va_runV (b := b16) (As := [.int v15]) (rest := [.int ((10 : Int32) * a3)]) S (metX2_byteAt zx17) (cwV 1 hts (lw_V q583 q585 qs5 q172 q586) rfl rfl rfl (by decide +kernel) ⟨(Nat.le_of_ble_eq_true rfl), (Nat.le_of_ble_eq_true rfl)⟩) (c_preV hG hH hS (ci := 2) rfl zb16) rfl rfl hl.1 (by rw [yb16]; rfl) (lv_room (Nat.le_of_ble_eq_true rfl)) dX2_number_2_80 ⟨f1, f2⟩) (fun H locs hH hS => ?_)
    refine lv_iadd hx hb dX2_number_2_83 ?_
    refine lv_bipush (v := (48 : Int32)) hx hb dX2_number_2_84 (by decide) ?_
    refine lv_isub hx hb dX2_number_2_86 ?_
    refine lv_istore_n (lv' := [(3, .int ((((10 : Int32) * a3) + x17) - (48 : Int32))), (0, va_rf (some a0)), (1, .int a1), (2, .int a2)]) hx hb dX2_number_2_87 rfl hl (by decide) rfl (fun ls hl => ?_)
    refine c_aload_n hx hb dX2_number_2_88 rfl (lv_at hl 1 rfl) ?_
    refine lv_dup hx hb dX2_number_2_89 rfl ?_
    replace z := ob z
    obtain ⟨v18, zv18, z⟩ := z
    obtain ⟨fsv18, yv18, zv18⟩ := gI_e zv18
    refine c_get S hG hH (ci := 2) (k := 2) rfl in_X2 (Nat.le_of_ble_eq_true rfl) q384 (fun _ y => y) yv18 zv18 dX2_number_2_90 ?_
    refine lv_iconst (v := (1 : Int32)) hx hb dX2_number_2_93 (by decide) ?_
    refine lv_iadd hx hb dX2_number_2_94 ?_
    replace z := ob z
    obtain ⟨h19, zh19, z⟩ := z
    refine c_put S hG hH hS (ci := 2) (k := 2) rfl in_X2 tyX2 tyX2_ok nmX2 (Nat.le_of_ble_eq_true rfl) q384 (fun _ y => y) rfl (ty := .int) rfl rfl rfl zh19 dX2_number_2_95 (fun H locs hH hS => ?_)
    refine lv_goto (tgt := 34) hx hb dX2_number_2_98 (by decide) ?_
    exact ih h19 a1 a2 ((((10 : Int32) * a3) + x17) - (48 : Int32)) z _ _ hH hS _ (lv_sub hl [1, 2, 3, 0] rfl)
set_option maxHeartbeats 4000000 in
theorem metX2_number_2 {l : Launch} {A : Nat → Prop} {D : va_G} {ac : Nat → ClassId} {K : KE} {h : HS} {a0 : Nat} {a1 : Int32} {a2 : Int32} {x : HS × (Nat ⊕ Int32)} (z : fX2_number_2 K h a0 a1 a2 = some x) : vy_Met l yX2_number_2 (ws_ yX2_number_2 cX2_number_2 4 (some .int)) (rmC 3 42 K h) (cP A D ac K h [va_rf (some a0), .int a1, .int a2]) (tQi A D ac K x) (tX A D ac K x) (K.2.2.1 - h.2.1) (K.2.2.2 - h.2.2) A := by
  refine t_entry (by decide) (Nat.le_of_ble_eq_true rfl) ?_
  intro p e s m below meth c S hr hlk hnm hEx hG hRM hH hS ls hl
  replace hl : lv_has ls 4 [(0, va_rf (some a0)), (1, .int a1), (2, .int a2)] := hl
  replace hnm : meth.name = "number" := hnm
  replace S : CallFix p m c cX2_number_2 4 s _ lw_all RX2 := S
  obtain ⟨hx, hb, hml, hown, hts⟩ := id S
  unfold fX2_number_2 at z
  refine c_aload_n hx hb dX2_number_2_0 rfl (lv_at hl 0 rfl) ?_
  replace z := ob z
  obtain ⟨b1, zb1, z⟩ := z
  obtain ⟨yb1, zb1⟩ := rcv_e zb1
  replace z := ob z
  obtain ⟨x2, zx2, z⟩ := z
  refine c_calli hH hS hRM (fun _ _ f1 f2 => va_runV (b := b1) (As := []) (rest := []) S (metX2_here zx2) (cwV 0 hts (lw_V q579 q581 qs4 q172 q582) rfl rfl rfl (by decide +kernel) ⟨(Nat.le_of_ble_eq_true rfl), (Nat.le_of_ble_eq_true rfl)⟩) (c_preV hG hH hS (ci := 2) rfl zb1) rfl rfl hl.1 (by rw [yb1]; rfl) (lv_room (Nat.le_of_ble_eq_true rfl)) dX2_number_2_1 ⟨f1, f2⟩) (fun H locs hH hS => ?_)
  replace z := ob z
  obtain ⟨x3, zx3, z⟩ := z
  refine c_calli hH hS hRM (fun _ _ f1 f2 => va_runSN (As := [.int x2.2]) (rest := []) S (metX0_isDigit zx3) ⟨va_cnB 1 hts (lw_meth q608) rfl rfl rfl (hG.2.1.2.1 _ _ _ _ q606) (hts _ q167) (by decide +kernel) ⟨(Nat.le_of_ble_eq_true rfl), (Nat.le_of_ble_eq_true rfl)⟩, hts _ q607, trivial⟩ (c_pre hG hH hS) rfl rfl hl.1 rfl (lv_room (Nat.le_of_ble_eq_true rfl)) dX2_number_2_4 ⟨f1, f2⟩) (fun H locs hH hS => ?_)
  refine lv_if_ne (tgt := 20) hx hb dX2_number_2_7 (by decide) (fun c4 => ?_) (fun c4 => ?_)
  rotate_left 1
  · replace z := it c4 z
    refine c_aload_n hx hb dX2_number_2_10 rfl (lv_at hl 0 rfl) ?_
    refine lv_iconst (v := (1 : Int32)) hx hb dX2_number_2_11 (by decide) ?_
    refine c_aload_n hx hb dX2_number_2_12 rfl (lv_at hl 0 rfl) ?_
    replace z := ob z
    obtain ⟨v12, zv12, z⟩ := z
    obtain ⟨fsv12, yv12, zv12⟩ := gI_e zv12
    refine c_get S hG hH (ci := 2) (k := 2) rfl in_X2 (Nat.le_of_ble_eq_true rfl) q384 (fun _ y => y) yv12 zv12 dX2_number_2_13 ?_
    replace z := ob z
    obtain ⟨b13, zb13, z⟩ := z
    obtain ⟨yb13, zb13⟩ := rcv_e zb13
    replace z := ob z
    obtain ⟨x14, zx14, z⟩ := z
    refine c_callq hH hS hRM (fun _ _ f1 f2 => va_runV (b := b13) (As := [.int (1 : Int32), .int v12]) (rest := []) S (metX2_wrong zx14) (cwV 2 hts (lw_V q591 q593 qs7 q172 q594) rfl rfl rfl (by decide +kernel) ⟨(Nat.le_of_ble_eq_true rfl), (Nat.le_of_ble_eq_true rfl)⟩) (c_preV hG hH hS (ci := 2) rfl zb13) rfl rfl hl.1 (by rw [yb13]; rfl) (lv_room (Nat.le_of_ble_eq_true rfl)) dX2_number_2_16 ⟨f1, f2⟩) (fun H locs hH hS => ?_)
    replace z := ob z
    obtain ⟨q15, zq15, z⟩ := z
    exact t_throw S hG hEx hlk zq15 hH hS z dX2_number_2_19
  replace z := ie c4 z
  refine c_aload_n hx hb dX2_number_2_20 rfl (lv_at hl 0 rfl) ?_
  replace z := ob z
  obtain ⟨b5, zb5, z⟩ := z
  obtain ⟨yb5, zb5⟩ := rcv_e zb5
  replace z := ob z
  obtain ⟨x6, zx6, z⟩ := z
  refine t_callv hH hS hRM (fun _ _ f1 f2 => vy_runV (b := b5) (As := []) (rest := []) S (metX2_parted zx6) (cwV 0 hts (lw_V q602 q604 qs9 q172 q605) rfl rfl rfl (by decide +kernel) ⟨(Nat.le_of_ble_eq_true rfl), (Nat.le_of_ble_eq_true rfl)⟩) (c_preV hG hH hS (ci := 2) rfl zb5) rfl rfl hl.1 (by rw [yb5]; rfl) (lv_room (Nat.le_of_ble_eq_true rfl)) dX2_number_2_21 ⟨f1, f2⟩) (fun q7 H locs ce e9 hH hS g1 g2 g3 => ?_) (fun v8 H locs e9 hH hS => ?_)
  · replace z := tb_l e9 z
    exact t_prop hEx hlk hH hS g1 g2 g3 z
  replace z := tb_r e9 z
  refine c_aload_n hx hb dX2_number_2_24 rfl (lv_at hl 0 rfl) ?_
  refine c_aload_n hx hb dX2_number_2_25 rfl (lv_at hl 0 rfl) ?_
  replace z := ob z
  obtain ⟨v10, zv10, z⟩ := z
  obtain ⟨fsv10, yv10, zv10⟩ := gI_e zv10
  refine c_get S hG hH (ci := 2) (k := 2) rfl in_X2 (Nat.le_of_ble_eq_true rfl) q384 (fun _ y => y) yv10 zv10 dX2_number_2_26 ?_
  replace z := ob z
  obtain ⟨h11, zh11, z⟩ := z
  refine c_put S hG hH hS (ci := 2) (k := 3) rfl in_X2 tyX2 tyX2_ok nmX2 (Nat.le_of_ble_eq_true rfl) q385 (fun _ y => y) rfl (ty := .int) rfl rfl rfl zh11 dX2_number_2_29 (fun H locs hH hS => ?_)
  refine lv_iconst (v := (0 : Int32)) hx hb dX2_number_2_32 (by decide) ?_
  refine lv_istore_n (lv' := [(3, .int (0 : Int32)), (0, va_rf (some a0)), (1, .int a1), (2, .int a2)]) hx hb dX2_number_2_33 rfl hl (by decide) rfl (fun ls hl => ?_)
  exact wX2_number_2_34 S hr hlk hnm hEx hG hRM FU h11 a1 a2 (0 : Int32) z _ _ hH hS _ (lv_sub hl [1, 2, 3, 0] rfl)
/-! FourOnOne$Reader.opens(I)V -/
def fX2_opens (K : KE) (h : HS) (a0 : Nat) (a1 : Int32) : Option (HS × (Nat ⊕ Unit)) :=
  (gI K h (some a0) 2 4).bind fun v1 =>
  if v1 = (6 : Int32) then
    (rcv K h (some a0) 2).bind fun b5 =>
    (fX2_wrong K h b5 (4 : Int32) a1).bind fun x6 =>
    (rcv K x6.1 x6.2 3).bind fun q7 =>
    some (x6.1, .inl q7)
  else
  (gI K h (some a0) 2 4).bind fun v3 =>
  (pV h (some a0) 2 4 (.int (v3 + (1 : Int32)))).bind fun h4 =>
  some (h4, .inr ())
set_option maxHeartbeats 4000000 in
theorem metX2_opens {l : Launch} {A : Nat → Prop} {D : va_G} {ac : Nat → ClassId} {K : KE} {h : HS} {a0 : Nat} {a1 : Int32} {x : HS × (Nat ⊕ Unit)} (z : fX2_opens K h a0 a1 = some x) : vy_Met l yX2_opens (ws_ yX2_opens cX2_opens 2 (none)) (rmC 2 22 K h) (cP A D ac K h [va_rf (some a0), .int a1]) (tQv A D ac K x) (tX A D ac K x) (K.2.2.1 - h.2.1) (K.2.2.2 - h.2.2) A := by
  refine t_entry (by decide) (Nat.le_of_ble_eq_true rfl) ?_
  intro p e s m below meth c S hr hlk hnm hEx hG hRM hH hS ls hl
  replace hl : lv_has ls 2 [(0, va_rf (some a0)), (1, .int a1)] := hl
  replace hnm : meth.name = "opens" := hnm
  replace S : CallFix p m c cX2_opens 2 s _ lw_all RX2 := S
  obtain ⟨hx, hb, hml, hown, hts⟩ := id S
  unfold fX2_opens at z
  refine c_aload_n hx hb dX2_opens_0 rfl (lv_at hl 0 rfl) ?_
  replace z := ob z
  obtain ⟨v1, zv1, z⟩ := z
  obtain ⟨fsv1, yv1, zv1⟩ := gI_e zv1
  refine c_get S hG hH (ci := 2) (k := 4) rfl in_X2 (Nat.le_of_ble_eq_true rfl) q386 (fun _ y => y) yv1 zv1 dX2_opens_1 ?_
  refine lv_bipush (v := (6 : Int32)) hx hb dX2_opens_4 (by decide) ?_
  refine lv_icmp_ne (tgt := 16) hx hb dX2_opens_6 (by decide) (fun c2 => ?_) (fun c2 => ?_)
  · replace z := ie c2 z
    refine c_aload_n hx hb dX2_opens_16 rfl (lv_at hl 0 rfl) ?_
    refine lv_dup hx hb dX2_opens_17 rfl ?_
    replace z := ob z
    obtain ⟨v3, zv3, z⟩ := z
    obtain ⟨fsv3, yv3, zv3⟩ := gI_e zv3
    refine c_get S hG hH (ci := 2) (k := 4) rfl in_X2 (Nat.le_of_ble_eq_true rfl) q386 (fun _ y => y) yv3 zv3 dX2_opens_18 ?_
    refine lv_iconst (v := (1 : Int32)) hx hb dX2_opens_21 (by decide) ?_
    refine lv_iadd hx hb dX2_opens_22 ?_
    replace z := ob z
    obtain ⟨h4, zh4, z⟩ := z
    refine c_put S hG hH hS (ci := 2) (k := 4) rfl in_X2 tyX2 tyX2_ok nmX2 (Nat.le_of_ble_eq_true rfl) q386 (fun _ y => y) rfl (ty := .int) rfl rfl rfl zh4 dX2_opens_23 (fun H locs hH hS => ?_)
    exact t_vret S hr hlk hH hS z dX2_opens_26
  replace z := it c2 z
  refine c_aload_n hx hb dX2_opens_9 rfl (lv_at hl 0 rfl) ?_
  refine lv_iconst (v := (4 : Int32)) hx hb dX2_opens_10 (by decide) ?_
  refine lv_iload_n hx hb dX2_opens_11 rfl (lv_at hl 1 rfl) ?_
  replace z := ob z
  obtain ⟨b5, zb5, z⟩ := z
  obtain ⟨yb5, zb5⟩ := rcv_e zb5
  replace z := ob z
  obtain ⟨x6, zx6, z⟩ := z
  refine c_callq hH hS hRM (fun _ _ f1 f2 => va_runV (b := b5) (As := [.int (4 : Int32), .int a1]) (rest := []) S (metX2_wrong zx6) (cwV 2 hts (lw_V q591 q593 qs7 q172 q594) rfl rfl rfl (by decide +kernel) ⟨(Nat.le_of_ble_eq_true rfl), (Nat.le_of_ble_eq_true rfl)⟩) (c_preV hG hH hS (ci := 2) rfl zb5) rfl rfl hl.1 (by rw [yb5]; rfl) (lv_room (Nat.le_of_ble_eq_true rfl)) dX2_opens_12 ⟨f1, f2⟩) (fun H locs hH hS => ?_)
  replace z := ob z
  obtain ⟨q7, zq7, z⟩ := z
  exact t_throw S hG hEx hlk zq7 hH hS z dX2_opens_15
/-! FourOnOne$Reader.must(I)V -/
def fX2_must (K : KE) (h : HS) (a0 : Nat) (a1 : Int32) : Option (HS × (Nat ⊕ Unit)) :=
  (rcv K h (some a0) 2).bind fun b1 =>
  (fX2_here K h b1).bind fun x2 =>
  if x2.2 = a1 then
    (gI K x2.1 (some a0) 2 2).bind fun v4 =>
    (pV x2.1 (some a0) 2 2 (.int (v4 + (1 : Int32)))).bind fun h5 =>
    some (h5, .inr ())
  else
  (gI K x2.1 (some a0) 2 2).bind fun v6 =>
  (rcv K x2.1 (some a0) 2).bind fun b7 =>
  (fX2_wrong K x2.1 b7 (1 : Int32) v6).bind fun x8 =>
  (rcv K x8.1 x8.2 3).bind fun q9 =>
  some (x8.1, .inl q9)
set_option maxHeartbeats 4000000 in
theorem metX2_must {l : Launch} {A : Nat → Prop} {D : va_G} {ac : Nat → ClassId} {K : KE} {h : HS} {a0 : Nat} {a1 : Int32} {x : HS × (Nat ⊕ Unit)} (z : fX2_must K h a0 a1 = some x) : vy_Met l yX2_must (ws_ yX2_must cX2_must 2 (none)) (rmC 3 41 K h) (cP A D ac K h [va_rf (some a0), .int a1]) (tQv A D ac K x) (tX A D ac K x) (K.2.2.1 - h.2.1) (K.2.2.2 - h.2.2) A := by
  refine t_entry (by decide) (Nat.le_of_ble_eq_true rfl) ?_
  intro p e s m below meth c S hr hlk hnm hEx hG hRM hH hS ls hl
  replace hl : lv_has ls 2 [(0, va_rf (some a0)), (1, .int a1)] := hl
  replace hnm : meth.name = "must" := hnm
  replace S : CallFix p m c cX2_must 2 s _ lw_all RX2 := S
  obtain ⟨hx, hb, hml, hown, hts⟩ := id S
  unfold fX2_must at z
  refine c_aload_n hx hb dX2_must_0 rfl (lv_at hl 0 rfl) ?_
  replace z := ob z
  obtain ⟨b1, zb1, z⟩ := z
  obtain ⟨yb1, zb1⟩ := rcv_e zb1
  replace z := ob z
  obtain ⟨x2, zx2, z⟩ := z
  refine c_calli hH hS hRM (fun _ _ f1 f2 => va_runV (b := b1) (As := []) (rest := []) S (metX2_here zx2) (cwV 0 hts (lw_V q579 q581 qs4 q172 q582) rfl rfl rfl (by decide +kernel) ⟨(Nat.le_of_ble_eq_true rfl), (Nat.le_of_ble_eq_true rfl)⟩) (c_preV hG hH hS (ci := 2) rfl zb1) rfl rfl hl.1 (by rw [yb1]; rfl) (lv_room (Nat.le_of_ble_eq_true rfl)) dX2_must_1 ⟨f1, f2⟩) (fun H locs hH hS => ?_)
  refine lv_iload_n hx hb dX2_must_4 rfl (lv_at hl 1 rfl) ?_
  refine lv_icmp_eq (tgt := 18) hx hb dX2_must_5 (by decide) (fun c3 => ?_) (fun c3 => ?_)
  · replace z := it c3 z
    refine c_aload_n hx hb dX2_must_18 rfl (lv_at hl 0 rfl) ?_
    refine lv_dup hx hb dX2_must_19 rfl ?_
    replace z := ob z
    obtain ⟨v4, zv4, z⟩ := z
    obtain ⟨fsv4, yv4, zv4⟩ := gI_e zv4
    refine c_get S hG hH (ci := 2) (k := 2) rfl in_X2 (Nat.le_of_ble_eq_true rfl) q384 (fun _ y => y) yv4 zv4 dX2_must_20 ?_
    refine lv_iconst (v := (1 : Int32)) hx hb dX2_must_23 (by decide) ?_
    refine lv_iadd hx hb dX2_must_24 ?_
    replace z := ob z
    obtain ⟨h5, zh5, z⟩ := z
    refine c_put S hG hH hS (ci := 2) (k := 2) rfl in_X2 tyX2 tyX2_ok nmX2 (Nat.le_of_ble_eq_true rfl) q384 (fun _ y => y) rfl (ty := .int) rfl rfl rfl zh5 dX2_must_25 (fun H locs hH hS => ?_)
    exact t_vret S hr hlk hH hS z dX2_must_28
  replace z := ie c3 z
  refine c_aload_n hx hb dX2_must_8 rfl (lv_at hl 0 rfl) ?_
  refine lv_iconst (v := (1 : Int32)) hx hb dX2_must_9 (by decide) ?_
  refine c_aload_n hx hb dX2_must_10 rfl (lv_at hl 0 rfl) ?_
  replace z := ob z
  obtain ⟨v6, zv6, z⟩ := z
  obtain ⟨fsv6, yv6, zv6⟩ := gI_e zv6
  refine c_get S hG hH (ci := 2) (k := 2) rfl in_X2 (Nat.le_of_ble_eq_true rfl) q384 (fun _ y => y) yv6 zv6 dX2_must_11 ?_
  replace z := ob z
  obtain ⟨b7, zb7, z⟩ := z
  obtain ⟨yb7, zb7⟩ := rcv_e zb7
  replace z := ob z
  obtain ⟨x8, zx8, z⟩ := z
  refine c_callq hH hS hRM (fun _ _ f1 f2 => va_runV (b := b7) (As := [.int (1 : Int32), .int v6]) (rest := []) S (metX2_wrong zx8) (cwV 2 hts (lw_V q591 q593 qs7 q172 q594) rfl rfl rfl (by decide +kernel) ⟨(Nat.le_of_ble_eq_true rfl), (Nat.le_of_ble_eq_true rfl)⟩) (c_preV hG hH hS (ci := 2) rfl zb7) rfl rfl hl.1 (by rw [yb7]; rfl) (lv_room (Nat.le_of_ble_eq_true rfl)) dX2_must_14 ⟨f1, f2⟩) (fun H locs hH hS => ?_)
  replace z := ob z
  obtain ⟨q9, zq9, z⟩ := z
  exact t_throw S hG hEx hlk zq9 hH hS z dX2_must_17
/-! FourOnOne$Reader.word()Ljava/lang/String; -/
def fX2_word_76 (K : KE) (a0 : Nat) : Nat → HS → Option Nat → Int32 → Option (HS × (Nat ⊕ Option Nat))
  | 0, _, _, _ => none
  | n + 1, h, a1, a2 =>
    (gI K h (some a0) 2 2).bind fun v1 =>
    if v1 ≤ a2 then
      (fJ6_valueOf K h a1).bind fun x3 =>
      some (x3.1, .inr x3.2)
    else
    (gI K h (some a0) 2 3).bind fun v4 =>
    (gR K h (some a0) 2 7).bind fun v5 =>
    (gR K h v5 0 1).bind fun v6 =>
    (cI K h v6 3 a2).bind fun v7 =>
    (sC h a1 2 (a2 - v4) (vp_nar .char ((v7.toUInt32 % 65536).toInt32))).bind fun h8 =>
    fX2_word_76 K a0 n h8 a1 (a2 + (1 : Int32))
def fX2_word_32 (K : KE) (a0 : Nat) : Nat → HS → Option (HS × (Nat ⊕ Option Nat))
  | 0, _ => none
  | n + 1, h =>
    (gI K h (some a0) 2 2).bind fun v1 =>
    (rcv K h (some a0) 2).bind fun b2 =>
    (fX2_byteAt K h b2 v1).bind fun x3 =>
    (fX0_isLetter K h x3).bind fun x4 =>
    if x4 = 0 then
      (gI K h (some a0) 2 2).bind fun v6 =>
      (gI K h (some a0) 2 3).bind fun v7 =>
      (nA K h 2 (.inl (fun _ => 0)) (v6 - v7)).bind fun h8 =>
      (gI K h8 (some a0) 2 3).bind fun v9 =>
      fX2_word_76 K a0 FU h8 (some h.2.1) v9
    else
    (gI K h (some a0) 2 2).bind fun v10 =>
    (pV h (some a0) 2 2 (.int (v10 + (1 : Int32)))).bind fun h11 =>
    fX2_word_32 K a0 n h11
def fX2_word (K : KE) (h : HS) (a0 : Nat) : Option (HS × (Nat ⊕ Option Nat)) :=
  (rcv K h (some a0) 2).bind fun b1 =>
  (fX2_here K h b1).bind fun x2 =>
  (fX0_isLetter K x2.1 x2.2).bind fun x3 =>
  if x3 = 0 then
    (gI K x2.1 (some a0) 2 2).bind fun v12 =>
    (rcv K x2.1 (some a0) 2).bind fun b13 =>
    (fX2_wrong K x2.1 b13 (1 : Int32) v12).bind fun x14 =>
    (rcv K x14.1 x14.2 3).bind fun q15 =>
    some (x14.1, .inl q15)
  else
  (rcv K x2.1 (some a0) 2).bind fun b5 =>
  (fX2_parted K x2.1 b5).bind fun x6 =>
  tb x6 (fun q7 => some (x6.1, .inl q7)) fun v8 =>
  (gI K x6.1 (some a0) 2 2).bind fun v10 =>
  (pV x6.1 (some a0) 2 3 (.int v10)).bind fun h11 =>
  fX2_word_32 K a0 FU h11
set_option maxHeartbeats 4000000 in
theorem wX2_word_76 {p : Program} {l : Launch} {e : Env} {s : State} {m : MethodId} {args : Array Value} {below : List Frame} {meth : Method} {c : Code} {A : Nat → Prop} {D : va_G} {ac : Nat → ClassId} {K : KE} {h0 : HS} {a0 : Nat} (S : CallFix p m c cX2_word 3 s args lw_all RX2) (hr : meth.sig.returnType = some (.object "java/lang/String")) (hlk : meth.locks = false) (hnm : meth.name = "word") (hEx : ∀ x ∈ c.exceptionTable.toList, False) (hG : GK A D ac K s) (hRM : RM K s (rmC 6 117 K h0)) {x : HS × (Nat ⊕ Option Nat)} : ∀ (n : Nat) (h : HS) (a1 : Option Nat) (a2 : Int32), fX2_word_76 K a0 n h a1 a2 = some x → cGo p l e (rmC 6 117 K h0) s m args below meth c A D ac K (vy_MQ below (tQq A D ac K x) (tX A D ac K x) args s (K.2.2.1 - h0.2.1) (K.2.2.2 - h0.2.2) A) 3 76 [(0, va_rf (some a0)), (1, va_rf a1), (2, .int a2)] [] h := by
  obtain ⟨hx, hb, hml, hown, hts⟩ := id S
  intro n
  induction n with
  | zero => intro h a1 a2 z; cases z
  | succ n ih =>
    intro h a1 a2 z H locs hH hS ls hl
    rw [fX2_word_76] at z
    refine lv_iload_n hx hb dX2_word_76 rfl (lv_at hl 2 rfl) ?_
    refine c_aload_n hx hb dX2_word_77 rfl (lv_at hl 0 rfl) ?_
    replace z := ob z
    obtain ⟨v1, zv1, z⟩ := z
    obtain ⟨fsv1, yv1, zv1⟩ := gI_e zv1
    refine c_get S hG hH (ci := 2) (k := 2) rfl in_X2 (Nat.le_of_ble_eq_true rfl) q384 (fun _ y => y) yv1 zv1 dX2_word_78 ?_
    refine lv_icmp_ge (tgt := 108) hx hb dX2_word_81 (by decide) (fun c2 => ?_) (fun c2 => ?_)
    · replace z := it c2 z
      refine c_aload_n hx hb dX2_word_108 rfl (lv_at hl 1 rfl) ?_
      replace z := ob z
      obtain ⟨x3, zx3, z⟩ := z
      refine c_callq hH hS hRM (fun _ _ f1 f2 => va_runS (As := [va_rf a1]) (rest := []) S (metJ6_valueOf zx3) (va_cwS 1 hts (lw_S q609 q610 q180 q611) rfl rfl rfl (by decide +kernel) ⟨(Nat.le_of_ble_eq_true rfl), (Nat.le_of_ble_eq_true rfl)⟩) (c_pre hG hH hS) rfl rfl hl.1 rfl (lv_room (Nat.le_of_ble_eq_true rfl)) dX2_word_109 ⟨f1, f2⟩) (fun H locs hH hS => ?_)
      exact t_aret S hr (Or.inl ⟨_, rfl⟩) hlk hH hS z dX2_word_112
    replace z := ie c2 z
    refine c_aload_n hx hb dX2_word_84 rfl (lv_at hl 1 rfl) ?_
    refine lv_iload_n hx hb dX2_word_85 rfl (lv_at hl 2 rfl) ?_
    refine c_aload_n hx hb dX2_word_86 rfl (lv_at hl 0 rfl) ?_
    replace z := ob z
    obtain ⟨v4, zv4, z⟩ := z
    obtain ⟨fsv4, yv4, zv4⟩ := gI_e zv4
    refine c_get S hG hH (ci := 2) (k := 3) rfl in_X2 (Nat.le_of_ble_eq_true rfl) q385 (fun _ y => y) yv4 zv4 dX2_word_87 ?_
    refine lv_isub hx hb dX2_word_90 ?_
    refine c_aload_n hx hb dX2_word_91 rfl (lv_at hl 0 rfl) ?_
    replace z := ob z
    obtain ⟨v5, zv5, z⟩ := z
    obtain ⟨fsv5, yv5, zv5⟩ := gR_e zv5
    refine c_get S hG hH (ci := 2) (k := 7) rfl in_X2 (Nat.le_of_ble_eq_true rfl) q389 (fun _ y => y) yv5 zv5 dX2_word_92 ?_
    replace z := ob z
    obtain ⟨v6, zv6, z⟩ := z
    obtain ⟨fsv6, yv6, zv6⟩ := gR_e zv6
    refine c_getN S hG hH (ci := 0) (k := 1) rfl in_X0 (Nat.le_of_ble_eq_true rfl) q479 (fun _ y => y) yv6 zv6 dX2_word_95 ?_
    refine lv_iload_n hx hb dX2_word_98 rfl (lv_at hl 2 rfl) ?_
    replace z := ob z
    obtain ⟨v7, zv7, z⟩ := z
    refine c_bald S hG hH zv7 dX2_word_99 ?_
    refine lv_i2c (v := (v7.toUInt32 % 65536).toInt32) hx hb dX2_word_100 rfl ?_
    replace z := ob z
    obtain ⟨h8, zh8, z⟩ := z
    refine c_cast S hG hH hS zh8 dX2_word_101 (fun H locs hH hS => ?_)
    refine lv_iinc (v := (a2 + (1 : Int32))) (lv' := [(2, .int (a2 + (1 : Int32))), (0, va_rf (some a0)), (1, va_rf a1)]) hx hb dX2_word_102 hl (k := 2) rfl rfl (by decide) (by simp [List.filter, ct_r]) (fun ls hl => ?_)
    refine lv_goto (tgt := 76) hx hb dX2_word_105 (by decide) ?_
    exact ih h8 a1 (a2 + (1 : Int32)) z _ _ hH hS _ (lv_sub hl [1, 2, 0] rfl)
set_option maxHeartbeats 4000000 in
theorem wX2_word_32 {p : Program} {l : Launch} {e : Env} {s : State} {m : MethodId} {args : Array Value} {below : List Frame} {meth : Method} {c : Code} {A : Nat → Prop} {D : va_G} {ac : Nat → ClassId} {K : KE} {h0 : HS} {a0 : Nat} (S : CallFix p m c cX2_word 3 s args lw_all RX2) (hr : meth.sig.returnType = some (.object "java/lang/String")) (hlk : meth.locks = false) (hnm : meth.name = "word") (hEx : ∀ x ∈ c.exceptionTable.toList, False) (hG : GK A D ac K s) (hRM : RM K s (rmC 6 117 K h0)) {x : HS × (Nat ⊕ Option Nat)} : ∀ (n : Nat) (h : HS), fX2_word_32 K a0 n h = some x → cGo p l e (rmC 6 117 K h0) s m args below meth c A D ac K (vy_MQ below (tQq A D ac K x) (tX A D ac K x) args s (K.2.2.1 - h0.2.1) (K.2.2.2 - h0.2.2) A) 3 32 [(0, va_rf (some a0))] [] h := by
  obtain ⟨hx, hb, hml, hown, hts⟩ := id S
  intro n
  induction n with
  | zero => intro h z; cases z
  | succ n ih =>
    intro h z H locs hH hS ls hl
    rw [fX2_word_32] at z
    refine c_aload_n hx hb dX2_word_32 rfl (lv_at hl 0 rfl) ?_
    refine c_aload_n hx hb dX2_word_33 rfl (lv_at hl 0 rfl) ?_
    replace z := ob z
    obtain ⟨v1, zv1, z⟩ := z
    obtain ⟨fsv1, yv1, zv1⟩ := gI_e zv1
    refine c_get S hG hH (ci := 2) (k := 2) rfl in_X2 (Nat.le_of_ble_eq_true rfl) q384 (fun _ y => y) yv1 zv1 dX2_word_34 ?_
    replace z := ob z
    obtain ⟨b2, zb2, z⟩ := z
    obtain ⟨yb2, zb2⟩ := rcv_e zb2
    replace z := ob z
    obtain ⟨x3, zx3, z⟩ := z
    refine c_calli hH hS hRM (fun _ _ f1 f2 => va_runV (b := b2) (As := [.int v1]) (rest := []) S (metX2_byteAt zx3) (cwV 1 hts (lw_V q583 q585 qs5 q172 q586) rfl rfl rfl (by decide +kernel) ⟨(Nat.le_of_ble_eq_true rfl), (Nat.le_of_ble_eq_true rfl)⟩) (c_preV hG hH hS (ci := 2) rfl zb2) rfl rfl hl.1 (by rw [yb2]; rfl) (lv_room (Nat.le_of_ble_eq_true rfl)) dX2_word_37 ⟨f1, f2⟩) (fun H locs hH hS => ?_)
    replace z := ob z
    obtain ⟨x4, zx4, z⟩ := z
    refine c_calli hH hS hRM (fun _ _ f1 f2 => va_runSN (As := [.int x3]) (rest := []) S (metX0_isLetter zx4) ⟨va_cnB 1 hts (lw_meth q601) rfl rfl rfl (hG.2.1.2.1 _ _ _ _ q599) (hts _ q167) (by decide +kernel) ⟨(Nat.le_of_ble_eq_true rfl), (Nat.le_of_ble_eq_true rfl)⟩, hts _ q600, trivial⟩ (c_pre hG hH hS) rfl rfl hl.1 rfl (lv_room (Nat.le_of_ble_eq_true rfl)) dX2_word_40 ⟨f1, f2⟩) (fun H locs hH hS => ?_)
    refine lv_if_eq (tgt := 59) hx hb dX2_word_43 (by decide) (fun c5 => ?_) (fun c5 => ?_)
    rotate_left 1
    · replace z := ie c5 z
      refine c_aload_n hx hb dX2_word_46 rfl (lv_at hl 0 rfl) ?_
      refine lv_dup hx hb dX2_word_47 rfl ?_
      replace z := ob z
      obtain ⟨v10, zv10, z⟩ := z
      obtain ⟨fsv10, yv10, zv10⟩ := gI_e zv10
      refine c_get S hG hH (ci := 2) (k := 2) rfl in_X2 (Nat.le_of_ble_eq_true rfl) q384 (fun _ y => y) yv10 zv10 dX2_word_48 ?_
      refine lv_iconst (v := (1 : Int32)) hx hb dX2_word_51 (by decide) ?_
      refine lv_iadd hx hb dX2_word_52 ?_
      replace z := ob z
      obtain ⟨h11, zh11, z⟩ := z
      refine c_put S hG hH hS (ci := 2) (k := 2) rfl in_X2 tyX2 tyX2_ok nmX2 (Nat.le_of_ble_eq_true rfl) q384 (fun _ y => y) rfl (ty := .int) rfl rfl rfl zh11 dX2_word_53 (fun H locs hH hS => ?_)
      refine lv_goto (tgt := 32) hx hb dX2_word_56 (by decide) ?_
      exact ih h11 z _ _ hH hS _ (lv_sub hl [0] rfl)
    replace z := it c5 z
    refine c_aload_n hx hb dX2_word_59 rfl (lv_at hl 0 rfl) ?_
    replace z := ob z
    obtain ⟨v6, zv6, z⟩ := z
    obtain ⟨fsv6, yv6, zv6⟩ := gI_e zv6
    refine c_get S hG hH (ci := 2) (k := 2) rfl in_X2 (Nat.le_of_ble_eq_true rfl) q384 (fun _ y => y) yv6 zv6 dX2_word_60 ?_
    refine c_aload_n hx hb dX2_word_63 rfl (lv_at hl 0 rfl) ?_
    replace z := ob z
    obtain ⟨v7, zv7, z⟩ := z
    obtain ⟨fsv7, yv7, zv7⟩ := gI_e zv7
    refine c_get S hG hH (ci := 2) (k := 3) rfl in_X2 (Nat.le_of_ble_eq_true rfl) q385 (fun _ y => y) yv7 zv7 dX2_word_64 ?_
    refine lv_isub hx hb dX2_word_67 ?_
    replace z := ob z
    obtain ⟨h8, zh8, z⟩ := z
    refine c_newa S hG hH hS hRM 2 (atype := .char) (ty := .char) rfl rfl (fun y => y) (by decide) q686 (fun _ => rfl) zh8 dX2_word_68 (fun H locs hH hS => ?_)
    refine c_astore_n (lv' := [(1, va_rf (some h.2.1)), (0, va_rf (some a0))]) hx hb dX2_word_70 rfl hl (by decide) rfl (fun ls hl => ?_)
    refine c_aload_n hx hb dX2_word_71 rfl (lv_at hl 1 rfl) ?_
    replace z := ob z
    obtain ⟨v9, zv9, z⟩ := z
    obtain ⟨fsv9, yv9, zv9⟩ := gI_e zv9
    refine c_get S hG hH (ci := 2) (k := 3) rfl in_X2 (Nat.le_of_ble_eq_true rfl) q385 (fun _ y => y) yv9 zv9 dX2_word_72 ?_
    refine lv_istore_n (i := 2) (lv' := [(2, .int v9), (1, va_rf (some h.2.1)), (0, va_rf (some a0))]) hx hb dX2_word_75 rfl hl (by decide) (by simp [List.filter, ct_r, ct_i, ct_l]) (fun ls hl => ?_)
    exact wX2_word_76 S hr hlk hnm hEx hG hRM FU h8 (some h.2.1) v9 z _ _ hH hS _ (lv_sub hl [2, 1, 0] rfl)
set_option maxHeartbeats 4000000 in
theorem metX2_word {l : Launch} {A : Nat → Prop} {D : va_G} {ac : Nat → ClassId} {K : KE} {h : HS} {a0 : Nat} {x : HS × (Nat ⊕ Option Nat)} (z : fX2_word K h a0 = some x) : vy_Met l yX2_word (ws_ yX2_word cX2_word 3 (some (.object "java/lang/String"))) (rmC 6 117 K h) (cP A D ac K h [va_rf (some a0)]) (tQq A D ac K x) (tX A D ac K x) (K.2.2.1 - h.2.1) (K.2.2.2 - h.2.2) A := by
  refine t_entry (by decide) (Nat.le_of_ble_eq_true rfl) ?_
  intro p e s m below meth c S hr hlk hnm hEx hG hRM hH hS ls hl
  replace hl : lv_has ls 3 [(0, va_rf (some a0))] := hl
  replace hnm : meth.name = "word" := hnm
  replace S : CallFix p m c cX2_word 3 s _ lw_all RX2 := S
  obtain ⟨hx, hb, hml, hown, hts⟩ := id S
  unfold fX2_word at z
  refine c_aload_n hx hb dX2_word_0 rfl (lv_at hl 0 rfl) ?_
  replace z := ob z
  obtain ⟨b1, zb1, z⟩ := z
  obtain ⟨yb1, zb1⟩ := rcv_e zb1
  replace z := ob z
  obtain ⟨x2, zx2, z⟩ := z
  refine c_calli hH hS hRM (fun _ _ f1 f2 => va_runV (b := b1) (As := []) (rest := []) S (metX2_here zx2) (cwV 0 hts (lw_V q579 q581 qs4 q172 q582) rfl rfl rfl (by decide +kernel) ⟨(Nat.le_of_ble_eq_true rfl), (Nat.le_of_ble_eq_true rfl)⟩) (c_preV hG hH hS (ci := 2) rfl zb1) rfl rfl hl.1 (by rw [yb1]; rfl) (lv_room (Nat.le_of_ble_eq_true rfl)) dX2_word_1 ⟨f1, f2⟩) (fun H locs hH hS => ?_)
  replace z := ob z
  obtain ⟨x3, zx3, z⟩ := z
  refine c_calli hH hS hRM (fun _ _ f1 f2 => va_runSN (As := [.int x2.2]) (rest := []) S (metX0_isLetter zx3) ⟨va_cnB 1 hts (lw_meth q601) rfl rfl rfl (hG.2.1.2.1 _ _ _ _ q599) (hts _ q167) (by decide +kernel) ⟨(Nat.le_of_ble_eq_true rfl), (Nat.le_of_ble_eq_true rfl)⟩, hts _ q600, trivial⟩ (c_pre hG hH hS) rfl rfl hl.1 rfl (lv_room (Nat.le_of_ble_eq_true rfl)) dX2_word_4 ⟨f1, f2⟩) (fun H locs hH hS => ?_)
  refine lv_if_ne (tgt := 20) hx hb dX2_word_7 (by decide) (fun c4 => ?_) (fun c4 => ?_)
  rotate_left 1
  · replace z := it c4 z
    refine c_aload_n hx hb dX2_word_10 rfl (lv_at hl 0 rfl) ?_
    refine lv_iconst (v := (1 : Int32)) hx hb dX2_word_11 (by decide) ?_
    refine c_aload_n hx hb dX2_word_12 rfl (lv_at hl 0 rfl) ?_
    replace z := ob z
    obtain ⟨v12, zv12, z⟩ := z
    obtain ⟨fsv12, yv12, zv12⟩ := gI_e zv12
    refine c_get S hG hH (ci := 2) (k := 2) rfl in_X2 (Nat.le_of_ble_eq_true rfl) q384 (fun _ y => y) yv12 zv12 dX2_word_13 ?_
    replace z := ob z
    obtain ⟨b13, zb13, z⟩ := z
    obtain ⟨yb13, zb13⟩ := rcv_e zb13
    replace z := ob z
    obtain ⟨x14, zx14, z⟩ := z
    refine c_callq hH hS hRM (fun _ _ f1 f2 => va_runV (b := b13) (As := [.int (1 : Int32), .int v12]) (rest := []) S (metX2_wrong zx14) (cwV 2 hts (lw_V q591 q593 qs7 q172 q594) rfl rfl rfl (by decide +kernel) ⟨(Nat.le_of_ble_eq_true rfl), (Nat.le_of_ble_eq_true rfl)⟩) (c_preV hG hH hS (ci := 2) rfl zb13) rfl rfl hl.1 (by rw [yb13]; rfl) (lv_room (Nat.le_of_ble_eq_true rfl)) dX2_word_16 ⟨f1, f2⟩) (fun H locs hH hS => ?_)
    replace z := ob z
    obtain ⟨q15, zq15, z⟩ := z
    exact t_throw S hG hEx hlk zq15 hH hS z dX2_word_19
  replace z := ie c4 z
  refine c_aload_n hx hb dX2_word_20 rfl (lv_at hl 0 rfl) ?_
  replace z := ob z
  obtain ⟨b5, zb5, z⟩ := z
  obtain ⟨yb5, zb5⟩ := rcv_e zb5
  replace z := ob z
  obtain ⟨x6, zx6, z⟩ := z
  refine t_callv hH hS hRM (fun _ _ f1 f2 => vy_runV (b := b5) (As := []) (rest := []) S (metX2_parted zx6) (cwV 0 hts (lw_V q602 q604 qs9 q172 q605) rfl rfl rfl (by decide +kernel) ⟨(Nat.le_of_ble_eq_true rfl), (Nat.le_of_ble_eq_true rfl)⟩) (c_preV hG hH hS (ci := 2) rfl zb5) rfl rfl hl.1 (by rw [yb5]; rfl) (lv_room (Nat.le_of_ble_eq_true rfl)) dX2_word_21 ⟨f1, f2⟩) (fun q7 H locs ce e9 hH hS g1 g2 g3 => ?_) (fun v8 H locs e9 hH hS => ?_)
  · replace z := tb_l e9 z
    exact t_prop hEx hlk hH hS g1 g2 g3 z
  replace z := tb_r e9 z
  refine c_aload_n hx hb dX2_word_24 rfl (lv_at hl 0 rfl) ?_
  refine c_aload_n hx hb dX2_word_25 rfl (lv_at hl 0 rfl) ?_
  replace z := ob z
  obtain ⟨v10, zv10, z⟩ := z
  obtain ⟨fsv10, yv10, zv10⟩ := gI_e zv10
  refine c_get S hG hH (ci := 2) (k := 2) rfl in_X2 (Nat.le_of_ble_eq_true rfl) q384 (fun _ y => y) yv10 zv10 dX2_word_26 ?_
  replace z := ob z
  obtain ⟨h11, zh11, z⟩ := z
  refine c_put S hG hH hS (ci := 2) (k := 3) rfl in_X2 tyX2 tyX2_ok nmX2 (Nat.le_of_ble_eq_true rfl) q385 (fun _ y => y) rfl (ty := .int) rfl rfl rfl zh11 dX2_word_29 (fun H locs hH hS => ?_)
  exact wX2_word_32 S hr hlk hnm hEx hG hRM FU h11 z _ _ hH hS _ (lv_sub hl [0] rfl)
/-! FourOnOne$Reader.passes(Ljava/lang/String;)Z -/
def fX2_passes (K : KE) (h : HS) (a0 : Nat) (a1 : Option Nat) : Option (HS × (Nat ⊕ Int32)) :=
  (gI K h (some a0) 2 2).bind fun v1 =>
  (rcv K h (some a0) 2).bind fun b2 =>
  (fX2_here K h b2).bind fun x3 =>
  (fX0_isLetter K x3.1 x3.2).bind fun x4 =>
  if x4 = 0 then
    some (x3.1, .inr (0 : Int32))
  else
  (rcv K x3.1 (some a0) 2).bind fun b6 =>
  (fX2_word K x3.1 b6).bind fun x7 =>
  tb x7 (fun q8 => some (x7.1, .inl q8)) fun v9 =>
  (rcv K x7.1 v9 20).bind fun b11 =>
  (fJ6_equals K x7.1 b11 a1).bind fun x12 =>
  if x12 = 0 then
    (pV x7.1 (some a0) 2 2 (.int v1)).bind fun h14 =>
    some (h14, .inr (0 : Int32))
  else
  some (x7.1, .inr (1 : Int32))
set_option maxHeartbeats 4000000 in
theorem metX2_passes {l : Launch} {A : Nat → Prop} {D : va_G} {ac : Nat → ClassId} {K : KE} {h : HS} {a0 : Nat} {a1 : Option Nat} {x : HS × (Nat ⊕ Int32)} (z : fX2_passes K h a0 a1 = some x) : vy_Met l yX2_passes (ws_ yX2_passes cX2_passes 3 (some .boolean)) (rmC 7 139 K h) (cP A D ac K h [va_rf (some a0), va_rf a1]) (tQi A D ac K x) (tX A D ac K x) (K.2.2.1 - h.2.1) (K.2.2.2 - h.2.2) A := by
  refine t_entry (by decide) (by simp [lg_sl, ct_r, ct_i, ct_l]) ?_
  intro p e s m below meth c S hr hlk hnm hEx hG hRM hH hS ls hl
  replace hl : lv_has ls 3 [(0, va_rf (some a0)), (1, va_rf a1)] := (by simpa [lv_args, ct_r, ct_i, ct_l] using hl)
  replace hnm : meth.name = "passes" := hnm
  replace S : CallFix p m c cX2_passes 3 s _ lw_all RX2 := S
  obtain ⟨hx, hb, hml, hown, hts⟩ := id S
  unfold fX2_passes at z
  refine c_aload_n hx hb dX2_passes_0 rfl (lv_at hl 0 rfl) ?_
  replace z := ob z
  obtain ⟨v1, zv1, z⟩ := z
  obtain ⟨fsv1, yv1, zv1⟩ := gI_e zv1
  refine c_get S hG hH (ci := 2) (k := 2) rfl in_X2 (Nat.le_of_ble_eq_true rfl) q384 (fun _ y => y) yv1 zv1 dX2_passes_1 ?_
  refine lv_istore_n (i := 2) (lv' := [(2, .int v1), (0, va_rf (some a0)), (1, va_rf a1)]) hx hb dX2_passes_4 rfl hl (by decide) (by simp [List.filter, ct_r, ct_i, ct_l]) (fun ls hl => ?_)
  refine c_aload_n hx hb dX2_passes_5 rfl (lv_at hl 1 rfl) ?_
  replace z := ob z
  obtain ⟨b2, zb2, z⟩ := z
  obtain ⟨yb2, zb2⟩ := rcv_e zb2
  replace z := ob z
  obtain ⟨x3, zx3, z⟩ := z
  refine c_calli hH hS hRM (fun _ _ f1 f2 => va_runV (b := b2) (As := []) (rest := []) S (metX2_here zx3) (cwV 0 hts (lw_V q579 q581 qs4 q172 q582) rfl rfl rfl (by decide +kernel) ⟨(Nat.le_of_ble_eq_true rfl), (Nat.le_of_ble_eq_true rfl)⟩) (c_preV hG hH hS (ci := 2) rfl zb2) rfl rfl hl.1 (by rw [yb2]; rfl) (lv_room (Nat.le_of_ble_eq_true rfl)) dX2_passes_6 ⟨f1, f2⟩) (fun H locs hH hS => ?_)
  replace z := ob z
  obtain ⟨x4, zx4, z⟩ := z
  refine c_calli hH hS hRM (fun _ _ f1 f2 => va_runSN (As := [.int x3.2]) (rest := []) S (metX0_isLetter zx4) ⟨va_cnB 1 hts (lw_meth q601) rfl rfl rfl (hG.2.1.2.1 _ _ _ _ q599) (hts _ q167) (by decide +kernel) ⟨(Nat.le_of_ble_eq_true rfl), (Nat.le_of_ble_eq_true rfl)⟩, hts _ q600, trivial⟩ (c_pre hG hH hS) rfl rfl hl.1 rfl (lv_room (Nat.le_of_ble_eq_true rfl)) dX2_passes_9 ⟨f1, f2⟩) (fun H locs hH hS => ?_)
  refine lv_if_ne (tgt := 17) hx hb dX2_passes_12 (by decide) (fun c5 => ?_) (fun c5 => ?_)
  rotate_left 1
  · replace z := it c5 z
    refine lv_iconst (v := (0 : Int32)) hx hb dX2_passes_15 (by decide) ?_
    exact t_iret S hr hlk rfl hH hS z dX2_passes_16
  replace z := ie c5 z
  refine c_aload_n hx hb dX2_passes_17 rfl (lv_at hl 1 rfl) ?_
  replace z := ob z
  obtain ⟨b6, zb6, z⟩ := z
  obtain ⟨yb6, zb6⟩ := rcv_e zb6
  replace z := ob z
  obtain ⟨x7, zx7, z⟩ := z
  refine t_callq hH hS hRM (fun _ _ f1 f2 => vy_runV (b := b6) (As := []) (rest := []) S (metX2_word zx7) (cwV 0 hts (lw_V q595 q597 qs8 q172 q598) rfl rfl rfl (by decide +kernel) ⟨(Nat.le_of_ble_eq_true rfl), (Nat.le_of_ble_eq_true rfl)⟩) (c_preV hG hH hS (ci := 2) rfl zb6) rfl rfl hl.1 (by rw [yb6]; rfl) (lv_room (Nat.le_of_ble_eq_true rfl)) dX2_passes_18 ⟨f1, f2⟩) (fun q8 H locs ce e10 hH hS g1 g2 g3 => ?_) (fun v9 H locs e10 hH hS => ?_)
  · replace z := tb_l e10 z
    exact t_prop hEx hlk hH hS g1 g2 g3 z
  replace z := tb_r e10 z
  refine c_aload_n hx hb dX2_passes_21 rfl (lv_at hl 2 rfl) ?_
  replace z := ob z
  obtain ⟨b11, zb11, z⟩ := z
  obtain ⟨yb11, zb11⟩ := rcv_e zb11
  replace z := ob z
  obtain ⟨x12, zx12, z⟩ := z
  refine c_calli hH hS hRM (fun _ _ f1 f2 => va_runV (b := b11) (As := [va_rf a1]) (rest := []) S (metJ6_equals zx12) (cwV 1 hts (lw_V q745 q746 q747 q180 q748) rfl rfl rfl (by decide +kernel) ⟨(Nat.le_of_ble_eq_true rfl), (Nat.le_of_ble_eq_true rfl)⟩) (c_preV hG hH hS (ci := 20) rfl zb11) rfl rfl hl.1 (by rw [yb11]; rfl) (lv_room (Nat.le_of_ble_eq_true rfl)) dX2_passes_22 ⟨f1, f2⟩) (fun H locs hH hS => ?_)
  refine lv_if_eq (tgt := 30) hx hb dX2_passes_25 (by decide) (fun c13 => ?_) (fun c13 => ?_)
  rotate_left 1
  · replace z := ie c13 z
    refine lv_iconst (v := (1 : Int32)) hx hb dX2_passes_28 (by decide) ?_
    exact t_iret S hr hlk rfl hH hS z dX2_passes_29
  replace z := it c13 z
  refine c_aload_n hx hb dX2_passes_30 rfl (lv_at hl 1 rfl) ?_
  refine lv_iload_n hx hb dX2_passes_31 rfl (lv_at hl 0 rfl) ?_
  replace z := ob z
  obtain ⟨h14, zh14, z⟩ := z
  refine c_put S hG hH hS (ci := 2) (k := 2) rfl in_X2 tyX2 tyX2_ok nmX2 (Nat.le_of_ble_eq_true rfl) q384 (fun _ y => y) rfl (ty := .int) rfl rfl rfl zh14 dX2_passes_32 (fun H locs hH hS => ?_)
  refine lv_iconst (v := (0 : Int32)) hx hb dX2_passes_35 (by decide) ?_
  exact t_iret S hr hlk rfl hH hS z dX2_passes_36
/-! FourOnOne$Reader.name()Ljava/lang/String; -/
def fX2_name (K : KE) (h : HS) (a0 : Nat) : Option (HS × (Nat ⊕ Option Nat)) :=
  (rcv K h (some a0) 2).bind fun b1 =>
  (fX2_word K h b1).bind fun x2 =>
  tb x2 (fun q3 => some (x2.1, .inl q3)) fun v4 =>
  (fX0_find K x2.1 v4 (K.2.1 3)).bind fun x6 =>
  if x6 = (-1 : Int32) then
    (rcv K x2.1 v4 20).bind fun b8 =>
    (fJ6_length K x2.1 b8).bind fun x9 =>
    if x9 ≤ (6 : Int32) then
      some (x2.1, .inr v4)
    else
    (gI K x2.1 (some a0) 2 3).bind fun v11 =>
    (rcv K x2.1 (some a0) 2).bind fun b12 =>
    (fX2_wrong K x2.1 b12 (1 : Int32) (v11 + (6 : Int32))).bind fun x13 =>
    (rcv K x13.1 x13.2 3).bind fun q14 =>
    some (x13.1, .inl q14)
  else
  (gI K x2.1 (some a0) 2 3).bind fun v15 =>
  (rcv K x2.1 (some a0) 2).bind fun b16 =>
  (fX2_wrong K x2.1 b16 (1 : Int32) v15).bind fun x17 =>
  (rcv K x17.1 x17.2 3).bind fun q18 =>
  some (x17.1, .inl q18)
set_option maxHeartbeats 4000000 in
theorem metX2_name {l : Launch} {A : Nat → Prop} {D : va_G} {ac : Nat → ClassId} {K : KE} {h : HS} {a0 : Nat} {x : HS × (Nat ⊕ Option Nat)} (z : fX2_name K h a0 = some x) : vy_Met l yX2_name (ws_ yX2_name cX2_name 2 (some (.object "java/lang/String"))) (rmC 7 139 K h) (cP A D ac K h [va_rf (some a0)]) (tQq A D ac K x) (tX A D ac K x) (K.2.2.1 - h.2.1) (K.2.2.2 - h.2.2) A := by
  refine t_entry (by decide) (Nat.le_of_ble_eq_true rfl) ?_
  intro p e s m below meth c S hr hlk hnm hEx hG hRM hH hS ls hl
  replace hl : lv_has ls 2 [(0, va_rf (some a0))] := hl
  replace hnm : meth.name = "name" := hnm
  replace S : CallFix p m c cX2_name 2 s _ lw_all RX2 := S
  obtain ⟨hx, hb, hml, hown, hts⟩ := id S
  unfold fX2_name at z
  refine c_aload_n hx hb dX2_name_0 rfl (lv_at hl 0 rfl) ?_
  replace z := ob z
  obtain ⟨b1, zb1, z⟩ := z
  obtain ⟨yb1, zb1⟩ := rcv_e zb1
  replace z := ob z
  obtain ⟨x2, zx2, z⟩ := z
  refine t_callq hH hS hRM (fun _ _ f1 f2 => vy_runV (b := b1) (As := []) (rest := []) S (metX2_word zx2) (cwV 0 hts (lw_V q595 q597 qs8 q172 q598) rfl rfl rfl (by decide +kernel) ⟨(Nat.le_of_ble_eq_true rfl), (Nat.le_of_ble_eq_true rfl)⟩) (c_preV hG hH hS (ci := 2) rfl zb1) rfl rfl hl.1 (by rw [yb1]; rfl) (lv_room (Nat.le_of_ble_eq_true rfl)) dX2_name_1 ⟨f1, f2⟩) (fun q3 H locs ce e5 hH hS g1 g2 g3 => ?_) (fun v4 H locs e5 hH hS => ?_)
  · replace z := tb_l e5 z
    exact t_prop hEx hlk hH hS g1 g2 g3 z
  replace z := tb_r e5 z
  refine c_astore_n (lv' := [(1, va_rf v4), (0, va_rf (some a0))]) hx hb dX2_name_4 rfl hl (by decide) rfl (fun ls hl => ?_)
  refine c_aload_n hx hb dX2_name_5 rfl (lv_at hl 0 rfl) ?_
  refine c_getsN S hG hS (i := 3) (List.mem_of_getElem? (i := 3) rfl) q776 dX2_name_6 ?_
  replace z := ob z
  obtain ⟨x6, zx6, z⟩ := z
  refine c_calli hH hS hRM (fun _ _ f1 f2 => va_runSN (As := [va_rf v4, va_rf (K.2.1 3)]) (rest := []) S (metX0_find zx6) ⟨va_cnB 2 hts (lw_meth q780) rfl rfl rfl (hG.2.1.2.1 _ _ _ _ q778) (hts _ q167) (by decide +kernel) ⟨(Nat.le_of_ble_eq_true rfl), (Nat.le_of_ble_eq_true rfl)⟩, hts _ q779, trivial⟩ (c_pre hG hH hS) rfl rfl hl.1 rfl (lv_room (Nat.le_of_ble_eq_true rfl)) dX2_name_9 ⟨f1, f2⟩) (fun H locs hH hS => ?_)
  refine lv_iconst (v := (-1 : Int32)) hx hb dX2_name_12 (by decide) ?_
  refine lv_icmp_eq (tgt := 26) hx hb dX2_name_13 (by decide) (fun c7 => ?_) (fun c7 => ?_)
  rotate_left 1
  · replace z := ie c7 z
    refine c_aload_n hx hb dX2_name_16 rfl (lv_at hl 1 rfl) ?_
    refine lv_iconst (v := (1 : Int32)) hx hb dX2_name_17 (by decide) ?_
    refine c_aload_n hx hb dX2_name_18 rfl (lv_at hl 1 rfl) ?_
    replace z := ob z
    obtain ⟨v15, zv15, z⟩ := z
    obtain ⟨fsv15, yv15, zv15⟩ := gI_e zv15
    refine c_get S hG hH (ci := 2) (k := 3) rfl in_X2 (Nat.le_of_ble_eq_true rfl) q385 (fun _ y => y) yv15 zv15 dX2_name_19 ?_
    replace z := ob z
    obtain ⟨b16, zb16, z⟩ := z
    obtain ⟨yb16, zb16⟩ := rcv_e zb16
    replace z := ob z
    obtain ⟨x17, zx17, z⟩ := z
    refine c_callq hH hS hRM (fun _ _ f1 f2 => va_runV (b := b16) (As := [.int (1 : Int32), .int v15]) (rest := []) S (metX2_wrong zx17) (cwV 2 hts (lw_V q591 q593 qs7 q172 q594) rfl rfl rfl (by decide +kernel) ⟨(Nat.le_of_ble_eq_true rfl), (Nat.le_of_ble_eq_true rfl)⟩) (c_preV hG hH hS (ci := 2) rfl zb16) rfl rfl hl.1 (by rw [yb16]; rfl) (lv_room (Nat.le_of_ble_eq_true rfl)) dX2_name_22 ⟨f1, f2⟩) (fun H locs hH hS => ?_)
    replace z := ob z
    obtain ⟨q18, zq18, z⟩ := z
    exact t_throw S hG hEx hlk zq18 hH hS z dX2_name_25
  replace z := it c7 z
  refine c_aload_n hx hb dX2_name_26 rfl (lv_at hl 0 rfl) ?_
  replace z := ob z
  obtain ⟨b8, zb8, z⟩ := z
  obtain ⟨yb8, zb8⟩ := rcv_e zb8
  replace z := ob z
  obtain ⟨x9, zx9, z⟩ := z
  refine c_calli hH hS hRM (fun _ _ f1 f2 => va_runV (b := b8) (As := []) (rest := []) S (metJ6_length zx9) (cwV 0 hts (lw_V q782 q783 q784 q180 q785) rfl rfl rfl (by decide +kernel) ⟨(Nat.le_of_ble_eq_true rfl), (Nat.le_of_ble_eq_true rfl)⟩) (c_preV hG hH hS (ci := 20) rfl zb8) rfl rfl hl.1 (by rw [yb8]; rfl) (lv_room (Nat.le_of_ble_eq_true rfl)) dX2_name_27 ⟨f1, f2⟩) (fun H locs hH hS => ?_)
  refine lv_bipush (v := (6 : Int32)) hx hb dX2_name_30 (by decide) ?_
  refine lv_icmp_le (tgt := 48) hx hb dX2_name_32 (by decide) (fun c10 => ?_) (fun c10 => ?_)
  · replace z := it c10 z
    refine c_aload_n hx hb dX2_name_48 rfl (lv_at hl 0 rfl) ?_
    exact t_aret S hr (Or.inl ⟨_, rfl⟩) hlk hH hS z dX2_name_49
  replace z := ie c10 z
  refine c_aload_n hx hb dX2_name_35 rfl (lv_at hl 1 rfl) ?_
  refine lv_iconst (v := (1 : Int32)) hx hb dX2_name_36 (by decide) ?_
  refine c_aload_n hx hb dX2_name_37 rfl (lv_at hl 1 rfl) ?_
  replace z := ob z
  obtain ⟨v11, zv11, z⟩ := z
  obtain ⟨fsv11, yv11, zv11⟩ := gI_e zv11
  refine c_get S hG hH (ci := 2) (k := 3) rfl in_X2 (Nat.le_of_ble_eq_true rfl) q385 (fun _ y => y) yv11 zv11 dX2_name_38 ?_
  refine lv_bipush (v := (6 : Int32)) hx hb dX2_name_41 (by decide) ?_
  refine lv_iadd hx hb dX2_name_43 ?_
  replace z := ob z
  obtain ⟨b12, zb12, z⟩ := z
  obtain ⟨yb12, zb12⟩ := rcv_e zb12
  replace z := ob z
  obtain ⟨x13, zx13, z⟩ := z
  refine c_callq hH hS hRM (fun _ _ f1 f2 => va_runV (b := b12) (As := [.int (1 : Int32), .int (v11 + (6 : Int32))]) (rest := []) S (metX2_wrong zx13) (cwV 2 hts (lw_V q591 q593 qs7 q172 q594) rfl rfl rfl (by decide +kernel) ⟨(Nat.le_of_ble_eq_true rfl), (Nat.le_of_ble_eq_true rfl)⟩) (c_preV hG hH hS (ci := 2) rfl zb12) rfl rfl hl.1 (by rw [yb12]; rfl) (lv_room (Nat.le_of_ble_eq_true rfl)) dX2_name_44 ⟨f1, f2⟩) (fun H locs hH hS => ?_)
  replace z := ob z
  obtain ⟨q14, zq14, z⟩ := z
  exact t_throw S hG hEx hlk zq14 hH hS z dX2_name_47
/-! FourOnOne$Reader.fresh()Ljava/lang/String; -/
def fX2_fresh (K : KE) (h : HS) (a0 : Nat) : Option (HS × (Nat ⊕ Option Nat)) :=
  (rcv K h (some a0) 2).bind fun b1 =>
  (fX2_name K h b1).bind fun x2 =>
  tb x2 (fun q3 => some (x2.1, .inl q3)) fun v4 =>
  (gR K x2.1 (some a0) 2 6).bind fun v6 =>
  (rcv K x2.1 v6 1).bind fun b7 =>
  (fX1_isNamed K x2.1 b7 v4).bind fun x8 =>
  if x8 = 0 then
    some (x2.1, .inr v4)
  else
  (gI K x2.1 (some a0) 2 3).bind fun v10 =>
  (rcv K x2.1 (some a0) 2).bind fun b11 =>
  (fX2_wrong K x2.1 b11 (3 : Int32) v10).bind fun x12 =>
  (rcv K x12.1 x12.2 3).bind fun q13 =>
  some (x12.1, .inl q13)
set_option maxHeartbeats 4000000 in
theorem metX2_fresh {l : Launch} {A : Nat → Prop} {D : va_G} {ac : Nat → ClassId} {K : KE} {h : HS} {a0 : Nat} {x : HS × (Nat ⊕ Option Nat)} (z : fX2_fresh K h a0 = some x) : vy_Met l yX2_fresh (ws_ yX2_fresh cX2_fresh 2 (some (.object "java/lang/String"))) (rmC 8 160 K h) (cP A D ac K h [va_rf (some a0)]) (tQq A D ac K x) (tX A D ac K x) (K.2.2.1 - h.2.1) (K.2.2.2 - h.2.2) A := by
  refine t_entry (by decide) (Nat.le_of_ble_eq_true rfl) ?_
  intro p e s m below meth c S hr hlk hnm hEx hG hRM hH hS ls hl
  replace hl : lv_has ls 2 [(0, va_rf (some a0))] := hl
  replace hnm : meth.name = "fresh" := hnm
  replace S : CallFix p m c cX2_fresh 2 s _ lw_all RX2 := S
  obtain ⟨hx, hb, hml, hown, hts⟩ := id S
  unfold fX2_fresh at z
  refine c_aload_n hx hb dX2_fresh_0 rfl (lv_at hl 0 rfl) ?_
  replace z := ob z
  obtain ⟨b1, zb1, z⟩ := z
  obtain ⟨yb1, zb1⟩ := rcv_e zb1
  replace z := ob z
  obtain ⟨x2, zx2, z⟩ := z
  refine t_callq hH hS hRM (fun _ _ f1 f2 => vy_runV (b := b1) (As := []) (rest := []) S (metX2_name zx2) (cwV 0 hts (lw_V q772 q774 qs12 q172 q775) rfl rfl rfl (by decide +kernel) ⟨(Nat.le_of_ble_eq_true rfl), (Nat.le_of_ble_eq_true rfl)⟩) (c_preV hG hH hS (ci := 2) rfl zb1) rfl rfl hl.1 (by rw [yb1]; rfl) (lv_room (Nat.le_of_ble_eq_true rfl)) dX2_fresh_1 ⟨f1, f2⟩) (fun q3 H locs ce e5 hH hS g1 g2 g3 => ?_) (fun v4 H locs e5 hH hS => ?_)
  · replace z := tb_l e5 z
    exact t_prop hEx hlk hH hS g1 g2 g3 z
  replace z := tb_r e5 z
  refine c_astore_n (lv' := [(1, va_rf v4), (0, va_rf (some a0))]) hx hb dX2_fresh_4 rfl hl (by decide) rfl (fun ls hl => ?_)
  refine c_aload_n hx hb dX2_fresh_5 rfl (lv_at hl 1 rfl) ?_
  replace z := ob z
  obtain ⟨v6, zv6, z⟩ := z
  obtain ⟨fsv6, yv6, zv6⟩ := gR_e zv6
  refine c_get S hG hH (ci := 2) (k := 6) rfl in_X2 (Nat.le_of_ble_eq_true rfl) q388 (fun _ y => y) yv6 zv6 dX2_fresh_6 ?_
  refine c_aload_n hx hb dX2_fresh_9 rfl (lv_at hl 0 rfl) ?_
  replace z := ob z
  obtain ⟨b7, zb7, z⟩ := z
  obtain ⟨yb7, zb7⟩ := rcv_e zb7
  replace z := ob z
  obtain ⟨x8, zx8, z⟩ := z
  refine c_calli hH hS hRM (fun _ _ f1 f2 => va_runV (b := b7) (As := [va_rf v4]) (rest := []) S (metX1_isNamed zx8) (cwV 1 hts (lw_V q790 q791 q792 q168 q793) rfl rfl rfl (by decide +kernel) ⟨(Nat.le_of_ble_eq_true rfl), (Nat.le_of_ble_eq_true rfl)⟩) (c_preV hG hH hS (ci := 1) rfl zb7) rfl rfl hl.1 (by rw [yb7]; rfl) (lv_room (Nat.le_of_ble_eq_true rfl)) dX2_fresh_10 ⟨f1, f2⟩) (fun H locs hH hS => ?_)
  refine lv_if_eq (tgt := 26) hx hb dX2_fresh_13 (by decide) (fun c9 => ?_) (fun c9 => ?_)
  · replace z := it c9 z
    refine c_aload_n hx hb dX2_fresh_26 rfl (lv_at hl 0 rfl) ?_
    exact t_aret S hr (Or.inl ⟨_, rfl⟩) hlk hH hS z dX2_fresh_27
  replace z := ie c9 z
  refine c_aload_n hx hb dX2_fresh_16 rfl (lv_at hl 1 rfl) ?_
  refine lv_iconst (v := (3 : Int32)) hx hb dX2_fresh_17 (by decide) ?_
  refine c_aload_n hx hb dX2_fresh_18 rfl (lv_at hl 1 rfl) ?_
  replace z := ob z
  obtain ⟨v10, zv10, z⟩ := z
  obtain ⟨fsv10, yv10, zv10⟩ := gI_e zv10
  refine c_get S hG hH (ci := 2) (k := 3) rfl in_X2 (Nat.le_of_ble_eq_true rfl) q385 (fun _ y => y) yv10 zv10 dX2_fresh_19 ?_
  replace z := ob z
  obtain ⟨b11, zb11, z⟩ := z
  obtain ⟨yb11, zb11⟩ := rcv_e zb11
  replace z := ob z
  obtain ⟨x12, zx12, z⟩ := z
  refine c_callq hH hS hRM (fun _ _ f1 f2 => va_runV (b := b11) (As := [.int (3 : Int32), .int v10]) (rest := []) S (metX2_wrong zx12) (cwV 2 hts (lw_V q591 q593 qs7 q172 q594) rfl rfl rfl (by decide +kernel) ⟨(Nat.le_of_ble_eq_true rfl), (Nat.le_of_ble_eq_true rfl)⟩) (c_preV hG hH hS (ci := 2) rfl zb11) rfl rfl hl.1 (by rw [yb11]; rfl) (lv_room (Nat.le_of_ble_eq_true rfl)) dX2_fresh_22 ⟨f1, f2⟩) (fun H locs hH hS => ?_)
  replace z := ob z
  obtain ⟨q13, zq13, z⟩ := z
  exact t_throw S hG hEx hlk zq13 hH hS z dX2_fresh_25
/-! FourOnOne$Reader.known(Ljava/util/List;)I -/
def fX2_known (K : KE) (h : HS) (a0 : Nat) (a1 : Option Nat) : Option (HS × (Nat ⊕ Int32)) :=
  (rcv K h (some a0) 2).bind fun b1 =>
  (fX2_name K h b1).bind fun x2 =>
  tb x2 (fun q3 => some (x2.1, .inl q3)) fun v4 =>
  (fX7_find K x2.1 a1 v4).bind fun x6 =>
  if x6 = (-1 : Int32) then
    (gI K x2.1 (some a0) 2 3).bind fun v8 =>
    (rcv K x2.1 (some a0) 2).bind fun b9 =>
    (fX2_wrong K x2.1 b9 (3 : Int32) v8).bind fun x10 =>
    (rcv K x10.1 x10.2 3).bind fun q11 =>
    some (x10.1, .inl q11)
  else
  some (x2.1, .inr x6)
set_option maxHeartbeats 4000000 in
theorem metX2_known {l : Launch} {A : Nat → Prop} {D : va_G} {ac : Nat → ClassId} {K : KE} {h : HS} {a0 : Nat} {a1 : Option Nat} {x : HS × (Nat ⊕ Int32)} (z : fX2_known K h a0 a1 = some x) : vy_Met l yX2_known (ws_ yX2_known cX2_known 3 (some .int)) (rmC 8 160 K h) (cP A D ac K h [va_rf (some a0), va_rf a1]) (tQi A D ac K x) (tX A D ac K x) (K.2.2.1 - h.2.1) (K.2.2.2 - h.2.2) A := by
  refine t_entry (by decide) (by simp [lg_sl, ct_r, ct_i, ct_l]) ?_
  intro p e s m below meth c S hr hlk hnm hEx hG hRM hH hS ls hl
  replace hl : lv_has ls 3 [(0, va_rf (some a0)), (1, va_rf a1)] := (by simpa [lv_args, ct_r, ct_i, ct_l] using hl)
  replace hnm : meth.name = "known" := hnm
  replace S : CallFix p m c cX2_known 3 s _ lw_all RX2 := S
  obtain ⟨hx, hb, hml, hown, hts⟩ := id S
  unfold fX2_known at z
  refine c_aload_n hx hb dX2_known_0 rfl (lv_at hl 1 rfl) ?_
  refine c_aload_n hx hb dX2_known_1 rfl (lv_at hl 0 rfl) ?_
  replace z := ob z
  obtain ⟨b1, zb1, z⟩ := z
  obtain ⟨yb1, zb1⟩ := rcv_e zb1
  replace z := ob z
  obtain ⟨x2, zx2, z⟩ := z
  refine t_callq hH hS hRM (fun _ _ f1 f2 => vy_runV (b := b1) (As := []) (rest := [va_rf a1]) S (metX2_name zx2) (cwV 0 hts (lw_V q772 q774 qs12 q172 q775) rfl rfl rfl (by decide +kernel) ⟨(Nat.le_of_ble_eq_true rfl), (Nat.le_of_ble_eq_true rfl)⟩) (c_preV hG hH hS (ci := 2) rfl zb1) rfl rfl hl.1 (by rw [yb1]; rfl) (lv_room (by simp [ct_r, ct_i, ct_l])) dX2_known_2 ⟨f1, f2⟩) (fun q3 H locs ce e5 hH hS g1 g2 g3 => ?_) (fun v4 H locs e5 hH hS => ?_)
  · replace z := tb_l e5 z
    exact t_prop hEx hlk hH hS g1 g2 g3 z
  replace z := tb_r e5 z
  replace z := ob z
  obtain ⟨x6, zx6, z⟩ := z
  refine c_calli hH hS hRM (fun _ _ f1 f2 => va_runS (As := [va_rf a1, va_rf v4]) (rest := []) S (metX7_find zx6) (va_cwS 2 hts (lw_S q948 q795 q185 q796) rfl rfl rfl (by decide +kernel) ⟨(Nat.le_of_ble_eq_true rfl), (Nat.le_of_ble_eq_true rfl)⟩) (c_pre hG hH hS) rfl rfl hl.1 rfl (lv_room (Nat.le_of_ble_eq_true rfl)) dX2_known_5 ⟨f1, f2⟩) (fun H locs hH hS => ?_)
  refine lv_istore_n (i := 2) (lv' := [(2, .int x6), (0, va_rf (some a0)), (1, va_rf a1)]) hx hb dX2_known_8 rfl hl (by decide) (by simp [List.filter, ct_r, ct_i, ct_l]) (fun ls hl => ?_)
  refine lv_iload_n hx hb dX2_known_9 rfl (lv_at hl 0 rfl) ?_
  refine lv_iconst (v := (-1 : Int32)) hx hb dX2_known_10 (by decide) ?_
  refine lv_icmp_ne (tgt := 24) hx hb dX2_known_11 (by decide) (fun c7 => ?_) (fun c7 => ?_)
  · replace z := ie c7 z
    refine lv_iload_n hx hb dX2_known_24 rfl (lv_at hl 0 rfl) ?_
    exact t_iret S hr hlk rfl hH hS z dX2_known_25
  replace z := it c7 z
  refine c_aload_n hx hb dX2_known_14 rfl (lv_at hl 1 rfl) ?_
  refine lv_iconst (v := (3 : Int32)) hx hb dX2_known_15 (by decide) ?_
  refine c_aload_n hx hb dX2_known_16 rfl (lv_at hl 1 rfl) ?_
  replace z := ob z
  obtain ⟨v8, zv8, z⟩ := z
  obtain ⟨fsv8, yv8, zv8⟩ := gI_e zv8
  refine c_get S hG hH (ci := 2) (k := 3) rfl in_X2 (Nat.le_of_ble_eq_true rfl) q385 (fun _ y => y) yv8 zv8 dX2_known_17 ?_
  replace z := ob z
  obtain ⟨b9, zb9, z⟩ := z
  obtain ⟨yb9, zb9⟩ := rcv_e zb9
  replace z := ob z
  obtain ⟨x10, zx10, z⟩ := z
  refine c_callq hH hS hRM (fun _ _ f1 f2 => va_runV (b := b9) (As := [.int (3 : Int32), .int v8]) (rest := []) S (metX2_wrong zx10) (cwV 2 hts (lw_V q591 q593 qs7 q172 q594) rfl rfl rfl (by decide +kernel) ⟨(Nat.le_of_ble_eq_true rfl), (Nat.le_of_ble_eq_true rfl)⟩) (c_preV hG hH hS (ci := 2) rfl zb9) rfl rfl hl.1 (by rw [yb9]; rfl) (lv_room (Nat.le_of_ble_eq_true rfl)) dX2_known_20 ⟨f1, f2⟩) (fun H locs hH hS => ?_)
  replace z := ob z
  obtain ⟨q11, zq11, z⟩ := z
  exact t_throw S hG hEx hlk zq11 hH hS z dX2_known_23
/-! FourOnOne$Reader.word(Ljava/lang/String;)V -/
def fX2_word_2 (K : KE) (h : HS) (a0 : Nat) (a1 : Option Nat) : Option (HS × (Nat ⊕ Unit)) :=
  (rcv K h (some a0) 2).bind fun b1 =>
  (fX2_word K h b1).bind fun x2 =>
  tb x2 (fun q3 => some (x2.1, .inl q3)) fun v4 =>
  (rcv K x2.1 v4 20).bind fun b6 =>
  (fJ6_equals K x2.1 b6 a1).bind fun x7 =>
  if x7 = 0 then
    (gI K x2.1 (some a0) 2 3).bind fun v9 =>
    (rcv K x2.1 (some a0) 2).bind fun b10 =>
    (fX2_wrong K x2.1 b10 (1 : Int32) v9).bind fun x11 =>
    (rcv K x11.1 x11.2 3).bind fun q12 =>
    some (x11.1, .inl q12)
  else
  some (x2.1, .inr ())
set_option maxHeartbeats 4000000 in
theorem metX2_word_2 {l : Launch} {A : Nat → Prop} {D : va_G} {ac : Nat → ClassId} {K : KE} {h : HS} {a0 : Nat} {a1 : Option Nat} {x : HS × (Nat ⊕ Unit)} (z : fX2_word_2 K h a0 a1 = some x) : vy_Met l yX2_word_2 (ws_ yX2_word_2 cX2_word_2 2 (none)) (rmC 7 139 K h) (cP A D ac K h [va_rf (some a0), va_rf a1]) (tQv A D ac K x) (tX A D ac K x) (K.2.2.1 - h.2.1) (K.2.2.2 - h.2.2) A := by
  refine t_entry (by decide) (by simp [lg_sl, ct_r, ct_i, ct_l]) ?_
  intro p e s m below meth c S hr hlk hnm hEx hG hRM hH hS ls hl
  replace hl : lv_has ls 2 [(0, va_rf (some a0)), (1, va_rf a1)] := (by simpa [lv_args, ct_r, ct_i, ct_l] using hl)
  replace hnm : meth.name = "word" := hnm
  replace S : CallFix p m c cX2_word_2 2 s _ lw_all RX2 := S
  obtain ⟨hx, hb, hml, hown, hts⟩ := id S
  unfold fX2_word_2 at z
  refine c_aload_n hx hb dX2_word_2_0 rfl (lv_at hl 0 rfl) ?_
  replace z := ob z
  obtain ⟨b1, zb1, z⟩ := z
  obtain ⟨yb1, zb1⟩ := rcv_e zb1
  replace z := ob z
  obtain ⟨x2, zx2, z⟩ := z
  refine t_callq hH hS hRM (fun _ _ f1 f2 => vy_runV (b := b1) (As := []) (rest := []) S (metX2_word zx2) (cwV 0 hts (lw_V q595 q597 qs8 q172 q598) rfl rfl rfl (by decide +kernel) ⟨(Nat.le_of_ble_eq_true rfl), (Nat.le_of_ble_eq_true rfl)⟩) (c_preV hG hH hS (ci := 2) rfl zb1) rfl rfl hl.1 (by rw [yb1]; rfl) (lv_room (Nat.le_of_ble_eq_true rfl)) dX2_word_2_1 ⟨f1, f2⟩) (fun q3 H locs ce e5 hH hS g1 g2 g3 => ?_) (fun v4 H locs e5 hH hS => ?_)
  · replace z := tb_l e5 z
    exact t_prop hEx hlk hH hS g1 g2 g3 z
  replace z := tb_r e5 z
  refine c_aload_n hx hb dX2_word_2_4 rfl (lv_at hl 1 rfl) ?_
  replace z := ob z
  obtain ⟨b6, zb6, z⟩ := z
  obtain ⟨yb6, zb6⟩ := rcv_e zb6
  replace z := ob z
  obtain ⟨x7, zx7, z⟩ := z
  refine c_calli hH hS hRM (fun _ _ f1 f2 => va_runV (b := b6) (As := [va_rf a1]) (rest := []) S (metJ6_equals zx7) (cwV 1 hts (lw_V q745 q746 q747 q180 q748) rfl rfl rfl (by decide +kernel) ⟨(Nat.le_of_ble_eq_true rfl), (Nat.le_of_ble_eq_true rfl)⟩) (c_preV hG hH hS (ci := 20) rfl zb6) rfl rfl hl.1 (by rw [yb6]; rfl) (lv_room (Nat.le_of_ble_eq_true rfl)) dX2_word_2_5 ⟨f1, f2⟩) (fun H locs hH hS => ?_)
  refine lv_if_ne (tgt := 21) hx hb dX2_word_2_8 (by decide) (fun c8 => ?_) (fun c8 => ?_)
  · replace z := ie c8 z
    exact t_vret S hr hlk hH hS z dX2_word_2_21
  replace z := it c8 z
  refine c_aload_n hx hb dX2_word_2_11 rfl (lv_at hl 0 rfl) ?_
  refine lv_iconst (v := (1 : Int32)) hx hb dX2_word_2_12 (by decide) ?_
  refine c_aload_n hx hb dX2_word_2_13 rfl (lv_at hl 0 rfl) ?_
  replace z := ob z
  obtain ⟨v9, zv9, z⟩ := z
  obtain ⟨fsv9, yv9, zv9⟩ := gI_e zv9
  refine c_get S hG hH (ci := 2) (k := 3) rfl in_X2 (Nat.le_of_ble_eq_true rfl) q385 (fun _ y => y) yv9 zv9 dX2_word_2_14 ?_
  replace z := ob z
  obtain ⟨b10, zb10, z⟩ := z
  obtain ⟨yb10, zb10⟩ := rcv_e zb10
  replace z := ob z
  obtain ⟨x11, zx11, z⟩ := z
  refine c_callq hH hS hRM (fun _ _ f1 f2 => va_runV (b := b10) (As := [.int (1 : Int32), .int v9]) (rest := []) S (metX2_wrong zx11) (cwV 2 hts (lw_V q591 q593 qs7 q172 q594) rfl rfl rfl (by decide +kernel) ⟨(Nat.le_of_ble_eq_true rfl), (Nat.le_of_ble_eq_true rfl)⟩) (c_preV hG hH hS (ci := 2) rfl zb10) rfl rfl hl.1 (by rw [yb10]; rfl) (lv_room (Nat.le_of_ble_eq_true rfl)) dX2_word_2_17 ⟨f1, f2⟩) (fun H locs hH hS => ?_)
  replace z := ob z
  obtain ⟨q12, zq12, z⟩ := z
  exact t_throw S hG hEx hlk zq12 hH hS z dX2_word_2_20
/-! FourOnOne$Reader.number(Ljava/lang/String;II)I -/
def fX2_number (K : KE) (h : HS) (a0 : Nat) (a1 : Option Nat) (a2 : Int32) (a3 : Int32) : Option (HS × (Nat ⊕ Int32)) :=
  (rcv K h (some a0) 2).bind fun b1 =>
  (fX2_word_2 K h b1 a1).bind fun x2 =>
  tb x2 (fun q3 => some (x2.1, .inl q3)) fun v4 =>
  (rcv K x2.1 (some a0) 2).bind fun b6 =>
  (fX2_number_2 K x2.1 b6 a2 a3).bind fun x7 =>
  tb x7 (fun q8 => some (x7.1, .inl q8)) fun v9 =>
  some (x7.1, .inr v9)
set_option maxHeartbeats 4000000 in
theorem metX2_number {l : Launch} {A : Nat → Prop} {D : va_G} {ac : Nat → ClassId} {K : KE} {h : HS} {a0 : Nat} {a1 : Option Nat} {a2 : Int32} {a3 : Int32} {x : HS × (Nat ⊕ Int32)} (z : fX2_number K h a0 a1 a2 a3 = some x) : vy_Met l yX2_number (ws_ yX2_number cX2_number 4 (some .int)) (rmC 8 160 K h) (cP A D ac K h [va_rf (some a0), va_rf a1, .int a2, .int a3]) (tQi A D ac K x) (tX A D ac K x) (K.2.2.1 - h.2.1) (K.2.2.2 - h.2.2) A := by
  refine t_entry (by decide) (by simp [lg_sl, ct_r, ct_i, ct_l]) ?_
  intro p e s m below meth c S hr hlk hnm hEx hG hRM hH hS ls hl
  replace hl : lv_has ls 4 [(0, va_rf (some a0)), (1, va_rf a1), (2, .int a2), (3, .int a3)] := (by simpa [lv_args, ct_r, ct_i, ct_l] using hl)
  replace hnm : meth.name = "number" := hnm
  replace S : CallFix p m c cX2_number 4 s _ lw_all RX2 := S
  obtain ⟨hx, hb, hml, hown, hts⟩ := id S
  unfold fX2_number at z
  refine c_aload_n hx hb dX2_number_0 rfl (lv_at hl 0 rfl) ?_
  refine c_aload_n hx hb dX2_number_1 rfl (lv_at hl 1 rfl) ?_
  replace z := ob z
  obtain ⟨b1, zb1, z⟩ := z
  obtain ⟨yb1, zb1⟩ := rcv_e zb1
  replace z := ob z
  obtain ⟨x2, zx2, z⟩ := z
  refine t_callv hH hS hRM (fun _ _ f1 f2 => vy_runV (b := b1) (As := [va_rf a1]) (rest := []) S (metX2_word_2 zx2) (cwV 1 hts (lw_V q915 q917 qs18 q172 q918) rfl rfl rfl (by decide +kernel) ⟨(Nat.le_of_ble_eq_true rfl), (Nat.le_of_ble_eq_true rfl)⟩) (c_preV hG hH hS (ci := 2) rfl zb1) rfl rfl hl.1 (by rw [yb1]; rfl) (lv_room (Nat.le_of_ble_eq_true rfl)) dX2_number_2 ⟨f1, f2⟩) (fun q3 H locs ce e5 hH hS g1 g2 g3 => ?_) (fun v4 H locs e5 hH hS => ?_)
  · replace z := tb_l e5 z
    exact t_prop hEx hlk hH hS g1 g2 g3 z
  replace z := tb_r e5 z
  refine c_aload_n hx hb dX2_number_5 rfl (lv_at hl 0 rfl) ?_
  refine lv_iload_n hx hb dX2_number_6 rfl (lv_at hl 2 rfl) ?_
  refine lv_iload_n hx hb dX2_number_7 rfl (lv_at hl 3 rfl) ?_
  replace z := ob z
  obtain ⟨b6, zb6, z⟩ := z
  obtain ⟨yb6, zb6⟩ := rcv_e zb6
  replace z := ob z
  obtain ⟨x7, zx7, z⟩ := z
  refine t_calli hH hS hRM (fun _ _ f1 f2 => vy_runV (b := b6) (As := [.int a2, .int a3]) (rest := []) S (metX2_number_2 zx7) (cwV 2 hts (lw_V q919 q921 qs19 q172 q922) rfl rfl rfl (by decide +kernel) ⟨(Nat.le_of_ble_eq_true rfl), (Nat.le_of_ble_eq_true rfl)⟩) (c_preV hG hH hS (ci := 2) rfl zb6) rfl rfl hl.1 (by rw [yb6]; rfl) (lv_room (Nat.le_of_ble_eq_true rfl)) dX2_number_8 ⟨f1, f2⟩) (fun q8 H locs ce e10 hH hS g1 g2 g3 => ?_) (fun v9 H locs e10 hH hS => ?_)
  · replace z := tb_l e10 z
    exact t_prop hEx hlk hH hS g1 g2 g3 z
  replace z := tb_r e10 z
  exact t_iret S hr hlk rfl hH hS z dX2_number_11
/-! FourOnOne$Reader.film()V -/
def fX2_film_31 (K : KE) (a0 : Nat) : Nat → HS → Option Nat → Int32 → Option (HS × (Nat ⊕ Unit))
  | 0, _, _, _ => none
  | n + 1, h, a2, a3 =>
    if a3 = 0 then
      (gR K h (some a0) 2 6).bind fun v2 =>
      (gR K h v2 1 7).bind fun v3 =>
      (rcv K h v3 19).bind fun b4 =>
      (fJ2_add K h b4 a2).bind fun x5 =>
      some (x5.1, .inr ())
    else
    (gR K h (some a0) 2 6).bind fun v6 =>
    (gR K h v6 1 6).bind fun v7 =>
    (rcv K h (some a0) 2).bind fun b8 =>
    (fX2_known K h b8 v7).bind fun x9 =>
    tb x9 (fun q10 => some (x9.1, .inl q10)) fun v11 =>
    (gR K x9.1 a2 7 2).bind fun v13 =>
    (cI K x9.1 v13 0 v11).bind fun v14 =>
    if v14 ≤ 0 then
      (gR K x9.1 a2 7 2).bind fun v16 =>
      (rcv K x9.1 (some a0) 2).bind fun b17 =>
      (fX2_number_2 K x9.1 b17 (1 : Int32) (9 : Int32)).bind fun x18 =>
      tb x18 (fun q19 => some (x18.1, .inl q19)) fun v20 =>
      (sC x18.1 v16 0 v11 v20).bind fun h22 =>
      (rcv K h22 (some a0) 2).bind fun b23 =>
      (fX2_here K h22 b23).bind fun x24 =>
      (fX0_isLetter K x24.1 x24.2).bind fun x25 =>
      fX2_film_31 K a0 n x24.1 a2 x25
    else
    (gI K x9.1 (some a0) 2 3).bind fun v26 =>
    (rcv K x9.1 (some a0) 2).bind fun b27 =>
    (fX2_wrong K x9.1 b27 (3 : Int32) v26).bind fun x28 =>
    (rcv K x28.1 x28.2 3).bind fun q29 =>
    some (x28.1, .inl q29)
def fX2_film (K : KE) (h : HS) (a0 : Nat) : Option (HS × (Nat ⊕ Unit)) :=
  (rcv K h (some a0) 2).bind fun b1 =>
  (fX2_fresh K h b1).bind fun x2 =>
  tb x2 (fun q3 => some (x2.1, .inl q3)) fun v4 =>
  (alc K x2.1 (.inr (7, df7)) 3).bind fun h6 =>
  (rcv K h6 (some a0) 2).bind fun b7 =>
  (fX2_number K h6 b7 (K.2.1 17) (1 : Int32) (9 : Int32)).bind fun x8 =>
  tb x8 (fun q9 => some (x8.1, .inl q9)) fun v10 =>
  (fX8_init K x8.1 x2.1.2.1 v4 v10).bind fun x12 =>
  (rcv K x12 (some a0) 2).bind fun b13 =>
  (fX2_word_2 K x12 b13 (K.2.1 18)).bind fun x14 =>
  tb x14 (fun q15 => some (x14.1, .inl q15)) fun v16 =>
  fX2_film_31 K a0 FU x14.1 (some x2.1.2.1) (1 : Int32)
set_option maxHeartbeats 4000000 in
theorem wX2_film_31 {p : Program} {l : Launch} {e : Env} {s : State} {m : MethodId} {args : Array Value} {below : List Frame} {meth : Method} {c : Code} {A : Nat → Prop} {D : va_G} {ac : Nat → ClassId} {K : KE} {h0 : HS} {a0 : Nat} (S : CallFix p m c cX2_film 5 s args lw_all RX2) (hr : meth.sig.returnType = none) (hlk : meth.locks = false) (hnm : meth.name = "film") (hEx : ∀ x ∈ c.exceptionTable.toList, False) (hG : GK A D ac K s) (hRM : RM K s (rmC 9 191 K h0)) {x : HS × (Nat ⊕ Unit)} : ∀ (n : Nat) (h : HS) (a2 : Option Nat) (a3 : Int32), fX2_film_31 K a0 n h a2 a3 = some x → cGo p l e (rmC 9 191 K h0) s m args below meth c A D ac K (vy_MQ below (tQv A D ac K x) (tX A D ac K x) args s (K.2.2.1 - h0.2.1) (K.2.2.2 - h0.2.2) A) 5 31 [(0, va_rf (some a0)), (2, va_rf a2), (3, .int a3)] [] h := by
  obtain ⟨hx, hb, hml, hown, hts⟩ := id S
  intro n
  induction n with
  | zero => intro h a2 a3 z; cases z
  | succ n ih =>
    intro h a2 a3 z H locs hH hS ls hl
    rw [fX2_film_31] at z
    refine lv_iload_n hx hb dX2_film_31 rfl (lv_at hl 2 rfl) ?_
    refine lv_if_eq (tgt := 93) hx hb dX2_film_32 (by decide) (fun c1 => ?_) (fun c1 => ?_)
    · replace z := it c1 z
      refine c_aload_n hx hb dX2_film_93 rfl (lv_at hl 0 rfl) ?_
      replace z := ob z
      obtain ⟨v2, zv2, z⟩ := z
      obtain ⟨fsv2, yv2, zv2⟩ := gR_e zv2
      refine c_get S hG hH (ci := 2) (k := 6) rfl in_X2 (Nat.le_of_ble_eq_true rfl) q388 (fun _ y => y) yv2 zv2 dX2_film_94 ?_
      replace z := ob z
      obtain ⟨v3, zv3, z⟩ := z
      obtain ⟨fsv3, yv3, zv3⟩ := gR_e zv3
      refine c_getN S hG hH (ci := 1) (k := 7) rfl in_X1 (Nat.le_of_ble_eq_true rfl) q268 (fun _ y => y) yv3 zv3 dX2_film_97 ?_
      refine c_aload_n hx hb dX2_film_100 rfl (lv_at hl 1 rfl) ?_
      replace z := ob z
      obtain ⟨b4, zb4, z⟩ := z
      obtain ⟨yb4, zb4⟩ := rcv_e zb4
      replace z := ob z
      obtain ⟨x5, zx5, z⟩ := z
      refine c_callFi hH hS hRM (fun _ _ f1 f2 => va_runF (b := b4) (As := [va_rf a2]) (rest := []) (hG.1.1 19 _ rfl).2 S (metJ2_add zx5) (va_cwF 1 hts (lw_app (lw_l4 q829 q832 q834 q171) (lw_meth q836)) rfl rfl rfl hG.2.2.2.2.1.2.2 (by decide +kernel) ⟨(Nat.le_of_ble_eq_true rfl), (Nat.le_of_ble_eq_true rfl)⟩) (c_preV hG hH hS (ci := 19) rfl zb4) rfl rfl hl.1 (by rw [yb4]; rfl) (lv_room (Nat.le_of_ble_eq_true rfl)) dX2_film_101 ⟨f1, f2⟩) (fun H locs hH hS => ?_)
      refine lv_pop hx hb dX2_film_106 rfl ?_
      exact t_vret S hr hlk hH hS z dX2_film_107
    replace z := ie c1 z
    refine c_aload_n hx hb dX2_film_35 rfl (lv_at hl 0 rfl) ?_
    refine c_aload_n hx hb dX2_film_36 rfl (lv_at hl 0 rfl) ?_
    replace z := ob z
    obtain ⟨v6, zv6, z⟩ := z
    obtain ⟨fsv6, yv6, zv6⟩ := gR_e zv6
    refine c_get S hG hH (ci := 2) (k := 6) rfl in_X2 (Nat.le_of_ble_eq_true rfl) q388 (fun _ y => y) yv6 zv6 dX2_film_37 ?_
    replace z := ob z
    obtain ⟨v7, zv7, z⟩ := z
    obtain ⟨fsv7, yv7, zv7⟩ := gR_e zv7
    refine c_getN S hG hH (ci := 1) (k := 6) rfl in_X1 (Nat.le_of_ble_eq_true rfl) q265 (fun _ y => y) yv7 zv7 dX2_film_40 ?_
    replace z := ob z
    obtain ⟨b8, zb8, z⟩ := z
    obtain ⟨yb8, zb8⟩ := rcv_e zb8
    replace z := ob z
    obtain ⟨x9, zx9, z⟩ := z
    refine t_calli hH hS hRM (fun _ _ f1 f2 => vy_runV (b := b8) (As := [va_rf v7]) (rest := []) S (metX2_known zx9) (cwV 1 hts (lw_V q944 q946 qs20 q172 q947) rfl rfl rfl (by decide +kernel) ⟨(Nat.le_of_ble_eq_true rfl), (Nat.le_of_ble_eq_true rfl)⟩) (c_preV hG hH hS (ci := 2) rfl zb8) rfl rfl hl.1 (by rw [yb8]; rfl) (lv_room (Nat.le_of_ble_eq_true rfl)) dX2_film_43 ⟨f1, f2⟩) (fun q10 H locs ce e12 hH hS g1 g2 g3 => ?_) (fun v11 H locs e12 hH hS => ?_)
    · replace z := tb_l e12 z
      exact t_prop hEx hlk hH hS g1 g2 g3 z
    replace z := tb_r e12 z
    refine lv_istore (lv' := [(4, .int v11), (0, va_rf (some a0)), (2, va_rf a2), (3, .int a3)]) hx hb dX2_film_46 hl (by decide) rfl (fun ls hl => ?_)
    refine c_aload_n hx hb dX2_film_48 rfl (lv_at hl 2 rfl) ?_
    replace z := ob z
    obtain ⟨v13, zv13, z⟩ := z
    obtain ⟨fsv13, yv13, zv13⟩ := gR_e zv13
    refine c_getN S hG hH (ci := 7) (k := 2) rfl in_X8 (Nat.le_of_ble_eq_true rfl) q935 (fun _ y => y) yv13 zv13 dX2_film_49 ?_
    refine lv_iload hx hb dX2_film_52 (lv_at hl 0 rfl) ?_
    replace z := ob z
    obtain ⟨v14, zv14, z⟩ := z
    refine c_iald S hG hH zv14 dX2_film_54 ?_
    refine lv_if_le (tgt := 68) hx hb dX2_film_55 (by decide) (fun c15 => ?_) (fun c15 => ?_)
    rotate_left 1
    · replace z := ie c15 z
      refine c_aload_n hx hb dX2_film_58 rfl (lv_at hl 1 rfl) ?_
      refine lv_iconst (v := (3 : Int32)) hx hb dX2_film_59 (by decide) ?_
      refine c_aload_n hx hb dX2_film_60 rfl (lv_at hl 1 rfl) ?_
      replace z := ob z
      obtain ⟨v26, zv26, z⟩ := z
      obtain ⟨fsv26, yv26, zv26⟩ := gI_e zv26
      refine c_get S hG hH (ci := 2) (k := 3) rfl in_X2 (Nat.le_of_ble_eq_true rfl) q385 (fun _ y => y) yv26 zv26 dX2_film_61 ?_
      replace z := ob z
      obtain ⟨b27, zb27, z⟩ := z
      obtain ⟨yb27, zb27⟩ := rcv_e zb27
      replace z := ob z
      obtain ⟨x28, zx28, z⟩ := z
      refine c_callq hH hS hRM (fun _ _ f1 f2 => va_runV (b := b27) (As := [.int (3 : Int32), .int v26]) (rest := []) S (metX2_wrong zx28) (cwV 2 hts (lw_V q591 q593 qs7 q172 q594) rfl rfl rfl (by decide +kernel) ⟨(Nat.le_of_ble_eq_true rfl), (Nat.le_of_ble_eq_true rfl)⟩) (c_preV hG hH hS (ci := 2) rfl zb27) rfl rfl hl.1 (by rw [yb27]; rfl) (lv_room (Nat.le_of_ble_eq_true rfl)) dX2_film_64 ⟨f1, f2⟩) (fun H locs hH hS => ?_)
      replace z := ob z
      obtain ⟨q29, zq29, z⟩ := z
      exact t_throw S hG hEx hlk zq29 hH hS z dX2_film_67
    replace z := it c15 z
    refine c_aload_n hx hb dX2_film_68 rfl (lv_at hl 2 rfl) ?_
    replace z := ob z
    obtain ⟨v16, zv16, z⟩ := z
    obtain ⟨fsv16, yv16, zv16⟩ := gR_e zv16
    refine c_getN S hG hH (ci := 7) (k := 2) rfl in_X8 (Nat.le_of_ble_eq_true rfl) q935 (fun _ y => y) yv16 zv16 dX2_film_69 ?_
    refine lv_iload hx hb dX2_film_72 (lv_at hl 0 rfl) ?_
    refine c_aload_n hx hb dX2_film_74 rfl (lv_at hl 1 rfl) ?_
    refine lv_iconst (v := (1 : Int32)) hx hb dX2_film_75 (by decide) ?_
    refine lv_bipush (v := (9 : Int32)) hx hb dX2_film_76 (by decide) ?_
    replace z := ob z
    obtain ⟨b17, zb17, z⟩ := z
    obtain ⟨yb17, zb17⟩ := rcv_e zb17
    replace z := ob z
    obtain ⟨x18, zx18, z⟩ := z
    refine t_calli hH hS hRM (fun _ _ f1 f2 => vy_runV (b := b17) (As := [.int (1 : Int32), .int (9 : Int32)]) (rest := [.int v11, va_rf v16]) S (metX2_number_2 zx18) (cwV 2 hts (lw_V q919 q921 qs19 q172 q922) rfl rfl rfl (by decide +kernel) ⟨(Nat.le_of_ble_eq_true rfl), (Nat.le_of_ble_eq_true rfl)⟩) (c_preV hG hH hS (ci := 2) rfl zb17) rfl rfl hl.1 (by rw [yb17]; rfl) (lv_room (by simp [ct_r, ct_i, ct_l])) dX2_film_78 ⟨f1, f2⟩) (fun q19 H locs ce e21 hH hS g1 g2 g3 => ?_) (fun v20 H locs e21 hH hS => ?_)
    · replace z := tb_l e21 z
      exact t_prop hEx hlk hH hS g1 g2 g3 z
    replace z := tb_r e21 z
    replace z := ob z
    obtain ⟨h22, zh22, z⟩ := z
    refine c_iast S hG hH hS zh22 dX2_film_81 (fun H locs hH hS => ?_)
    refine c_aload_n hx hb dX2_film_82 rfl (lv_at hl 1 rfl) ?_
    replace z := ob z
    obtain ⟨b23, zb23, z⟩ := z
    obtain ⟨yb23, zb23⟩ := rcv_e zb23
    replace z := ob z
    obtain ⟨x24, zx24, z⟩ := z
    refine c_calli hH hS hRM (fun _ _ f1 f2 => va_runV (b := b23) (As := []) (rest := []) S (metX2_here zx24) (cwV 0 hts (lw_V q579 q581 qs4 q172 q582) rfl rfl rfl (by decide +kernel) ⟨(Nat.le_of_ble_eq_true rfl), (Nat.le_of_ble_eq_true rfl)⟩) (c_preV hG hH hS (ci := 2) rfl zb23) rfl rfl hl.1 (by rw [yb23]; rfl) (lv_room (Nat.le_of_ble_eq_true rfl)) dX2_film_83 ⟨f1, f2⟩) (fun H locs hH hS => ?_)
    replace z := ob z
    obtain ⟨x25, zx25, z⟩ := z
    refine c_calli hH hS hRM (fun _ _ f1 f2 => va_runSN (As := [.int x24.2]) (rest := []) S (metX0_isLetter zx25) ⟨va_cnB 1 hts (lw_meth q601) rfl rfl rfl (hG.2.1.2.1 _ _ _ _ q599) (hts _ q167) (by decide +kernel) ⟨(Nat.le_of_ble_eq_true rfl), (Nat.le_of_ble_eq_true rfl)⟩, hts _ q600, trivial⟩ (c_pre hG hH hS) rfl rfl hl.1 rfl (lv_room (Nat.le_of_ble_eq_true rfl)) dX2_film_86 ⟨f1, f2⟩) (fun H locs hH hS => ?_)
    refine lv_istore_n (i := 3) (lv' := [(3, .int x25), (4, .int v11), (0, va_rf (some a0)), (2, va_rf a2)]) hx hb dX2_film_89 rfl hl (by decide) (by simp [List.filter, ct_r, ct_i, ct_l]) (fun ls hl => ?_)
    refine lv_goto (tgt := 31) hx hb dX2_film_90 (by decide) ?_
    exact ih x24.1 a2 x25 z _ _ hH hS _ (lv_sub hl [2, 3, 0] rfl)
set_option maxHeartbeats 4000000 in
theorem metX2_film {l : Launch} {A : Nat → Prop} {D : va_G} {ac : Nat → ClassId} {K : KE} {h : HS} {a0 : Nat} {x : HS × (Nat ⊕ Unit)} (z : fX2_film K h a0 = some x) : vy_Met l yX2_film (ws_ yX2_film cX2_film 5 (none)) (rmC 9 191 K h) (cP A D ac K h [va_rf (some a0)]) (tQv A D ac K x) (tX A D ac K x) (K.2.2.1 - h.2.1) (K.2.2.2 - h.2.2) A := by
  refine t_entry (by decide) (Nat.le_of_ble_eq_true rfl) ?_
  intro p e s m below meth c S hr hlk hnm hEx hG hRM hH hS ls hl
  replace hl : lv_has ls 5 [(0, va_rf (some a0))] := hl
  replace hnm : meth.name = "film" := hnm
  replace S : CallFix p m c cX2_film 5 s _ lw_all RX2 := S
  obtain ⟨hx, hb, hml, hown, hts⟩ := id S
  unfold fX2_film at z
  refine c_aload_n hx hb dX2_film_0 rfl (lv_at hl 0 rfl) ?_
  replace z := ob z
  obtain ⟨b1, zb1, z⟩ := z
  obtain ⟨yb1, zb1⟩ := rcv_e zb1
  replace z := ob z
  obtain ⟨x2, zx2, z⟩ := z
  refine t_callq hH hS hRM (fun _ _ f1 f2 => vy_runV (b := b1) (As := []) (rest := []) S (metX2_fresh zx2) (cwV 0 hts (lw_V q768 q770 qs11 q172 q771) rfl rfl rfl (by decide +kernel) ⟨(Nat.le_of_ble_eq_true rfl), (Nat.le_of_ble_eq_true rfl)⟩) (c_preV hG hH hS (ci := 2) rfl zb1) rfl rfl hl.1 (by rw [yb1]; rfl) (lv_room (Nat.le_of_ble_eq_true rfl)) dX2_film_1 ⟨f1, f2⟩) (fun q3 H locs ce e5 hH hS g1 g2 g3 => ?_) (fun v4 H locs e5 hH hS => ?_)
  · replace z := tb_l e5 z
    exact t_prop hEx hlk hH hS g1 g2 g3 z
  replace z := tb_r e5 z
  refine c_astore_n (lv' := [(1, va_rf v4), (0, va_rf (some a0))]) hx hb dX2_film_4 rfl hl (by decide) rfl (fun ls hl => ?_)
  replace z := ob z
  obtain ⟨h6, zh6, z⟩ := z
  refine c_new S hG hH hS hRM (ci := 7) rfl in_X8 tyX8 tyX8_ok q908 q909 q190 df7_ok zh6 dX2_film_5 (fun H locs hH hS => ?_)
  refine lv_dup hx hb dX2_film_8 (ct_r _) ?_
  refine c_aload_n hx hb dX2_film_9 rfl (lv_at hl 0 rfl) ?_
  refine c_aload_n hx hb dX2_film_10 rfl (lv_at hl 1 rfl) ?_
  refine c_ldcS S hG (i := 17) (tx := "parts") (List.mem_of_getElem? (i := 7) rfl) dX2_film_11 ?_
  refine lv_iconst (v := (1 : Int32)) hx hb dX2_film_13 (by decide) ?_
  refine lv_bipush (v := (9 : Int32)) hx hb dX2_film_14 (by decide) ?_
  replace z := ob z
  obtain ⟨b7, zb7, z⟩ := z
  obtain ⟨yb7, zb7⟩ := rcv_e zb7
  replace z := ob z
  obtain ⟨x8, zx8, z⟩ := z
  refine t_calli hH hS hRM (fun _ _ f1 f2 => vy_runV (b := b7) (As := [va_rf (K.2.1 17), .int (1 : Int32), .int (9 : Int32)]) (rest := [va_rf v4, va_rf (some x2.1.2.1), va_rf (some x2.1.2.1)]) S (metX2_number zx8) (cwV 3 hts (lw_V q911 q913 qs17 q172 q914) rfl rfl rfl (by decide +kernel) ⟨(Nat.le_of_ble_eq_true rfl), (Nat.le_of_ble_eq_true rfl)⟩) (c_preV hG hH hS (ci := 2) rfl zb7) rfl rfl hl.1 (by rw [yb7]; rfl) (lv_room (by simp [ct_r, ct_i, ct_l])) dX2_film_16 ⟨f1, f2⟩) (fun q9 H locs ce e11 hH hS g1 g2 g3 => ?_) (fun v10 H locs e11 hH hS => ?_)
  · replace z := tb_l e11 z
    exact t_prop hEx hlk hH hS g1 g2 g3 z
  replace z := tb_r e11 z
  replace z := ob z
  obtain ⟨x12, zx12, z⟩ := z
  refine c_callv hH hS hRM (fun _ _ f1 f2 => va_runI (b := x2.1.2.1) (As := [va_rf v4, .int v10]) (rest := [va_rf (some x2.1.2.1)]) S (metX8_init zx12) (cwI 2 hts (lw_meth q928) rfl rfl rfl (hts _ q190) (hts _ q926) (hts _ q927) rfl (by decide +kernel) ⟨(Nat.le_of_ble_eq_true rfl), (Nat.le_of_ble_eq_true rfl)⟩) (c_pre hG hH hS) rfl rfl hl.1 rfl (lv_room (by simp [ct_r, ct_i, ct_l])) dX2_film_19 ⟨f1, f2⟩) (fun H locs hH hS => ?_)
  refine c_astore_n (i := 2) (lv' := [(2, va_rf (some x2.1.2.1)), (1, va_rf v4), (0, va_rf (some a0))]) hx hb dX2_film_22 rfl hl (by decide) (by simp [List.filter, ct_r, ct_i, ct_l]) (fun ls hl => ?_)
  refine c_aload_n hx hb dX2_film_23 rfl (lv_at hl 2 rfl) ?_
  refine c_ldcS S hG (i := 18) (tx := "is") (List.mem_of_getElem? (i := 8) rfl) dX2_film_24 ?_
  replace z := ob z
  obtain ⟨b13, zb13, z⟩ := z
  obtain ⟨yb13, zb13⟩ := rcv_e zb13
  replace z := ob z
  obtain ⟨x14, zx14, z⟩ := z
  refine t_callv hH hS hRM (fun _ _ f1 f2 => vy_runV (b := b13) (As := [va_rf (K.2.1 18)]) (rest := []) S (metX2_word_2 zx14) (cwV 1 hts (lw_V q915 q917 qs18 q172 q918) rfl rfl rfl (by decide +kernel) ⟨(Nat.le_of_ble_eq_true rfl), (Nat.le_of_ble_eq_true rfl)⟩) (c_preV hG hH hS (ci := 2) rfl zb13) rfl rfl hl.1 (by rw [yb13]; rfl) (lv_room (Nat.le_of_ble_eq_true rfl)) dX2_film_26 ⟨f1, f2⟩) (fun q15 H locs ce e17 hH hS g1 g2 g3 => ?_) (fun v16 H locs e17 hH hS => ?_)
  · replace z := tb_l e17 z
    exact t_prop hEx hlk hH hS g1 g2 g3 z
  replace z := tb_r e17 z
  refine lv_iconst (v := (1 : Int32)) hx hb dX2_film_29 (by decide) ?_
  refine lv_istore_n (i := 3) (lv' := [(3, .int (1 : Int32)), (2, va_rf (some x2.1.2.1)), (1, va_rf v4), (0, va_rf (some a0))]) hx hb dX2_film_30 rfl hl (by decide) (by simp [List.filter, ct_r, ct_i, ct_l]) (fun ls hl => ?_)
  exact wX2_film_31 S hr hlk hnm hEx hG hRM FU x14.1 (some x2.1.2.1) (1 : Int32) z _ _ hH hS _ (lv_sub hl [3, 1, 0] rfl)

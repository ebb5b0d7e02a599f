set_option maxRecDepth 100000
/-! FourOnOne$State.isOver(II)Z -/
def fX5_isOver (K : KE) (h : HS) (a0 : Nat) (a1 : Int32) (a2 : Int32) : Option (Int32) :=
  (gR K h (some a0) 5 4).bind fun v1 =>
  (cR K h v1 8 a1).bind fun v2 =>
  (cI K h v2 0 a2).bind fun v3 =>
  (gR K h (some a0) 5 10).bind fun v4 =>
  (rcv K h v4 0).bind fun b5 =>
  (fX0_filmOf K h b5 a2).bind fun x6 =>
  (gI K h x6 7 1).bind fun v7 =>
  if v3 = v7 then
    some (1 : Int32)
  else
  some (0 : Int32)
set_option maxHeartbeats 4000000 in
theorem metX5_isOver {l : Launch} {A : Nat → Prop} {D : va_G} {ac : Nat → ClassId} {K : KE} {h : HS} {a0 : Nat} {a1 : Int32} {a2 : Int32} {x : Int32} (z : fX5_isOver K h a0 a1 a2 = some x) : Met l yX5_isOver (ws_ yX5_isOver cX5_isOver 3 (some .boolean)) (rmC 5 85 K h) (cP A D ac K h [va_rf (some a0), .int a1, .int a2]) (cQi A D ac K (h, x)) (K.2.2.1 - h.2.1) (K.2.2.2 - h.2.2) A := by
  refine c_entry (plainFor_of_name (by decide)) (Nat.le_of_ble_eq_true rfl) ?_
  intro p e s m below meth c S hr hlk hnm hG hRM hH hS ls hl
  replace hl : lv_has ls 3 [(0, va_rf (some a0)), (1, .int a1), (2, .int a2)] := hl
  replace hnm : meth.name = "isOver" := hnm
  replace S : CallFix p m c cX5_isOver 3 s _ lw_all RX5 := S
  obtain ⟨hx, hb, hml, hown, hts⟩ := id S
  unfold fX5_isOver at z
  refine c_aload_n hx hb dX5_isOver_0 rfl (lv_at hl 0 rfl) ?_
  replace z := ob z
  obtain ⟨v1, zv1, z⟩ := z
  obtain ⟨fsv1, yv1, zv1⟩ := gR_e zv1
  refine c_get S hG hH (ci := 5) (k := 4) rfl in_X5 (Nat.le_of_ble_eq_true rfl) q437 (fun _ y => y) yv1 zv1 dX5_isOver_1 ?_
  refine lv_iload_n hx hb dX5_isOver_4 rfl (lv_at hl 1 rfl) ?_
  replace z := ob z
  obtain ⟨v2, zv2, z⟩ := z
  refine c_aald S hG hH 8 rfl rfl zv2 dX5_isOver_5 ?_
  refine lv_iload_n hx hb dX5_isOver_6 rfl (lv_at hl 2 rfl) ?_
  replace z := ob z
  obtain ⟨v3, zv3, z⟩ := z
  refine c_iald S hG hH zv3 dX5_isOver_7 ?_
  refine c_aload_n hx hb dX5_isOver_8 rfl (lv_at hl 0 rfl) ?_
  replace z := ob z
  obtain ⟨v4, zv4, z⟩ := z
  obtain ⟨fsv4, yv4, zv4⟩ := gR_e zv4
  refine c_get S hG hH (ci := 5) (k := 10) rfl in_X5 (Nat.le_of_ble_eq_true rfl) q449 (fun _ y => y) yv4 zv4 dX5_isOver_9 ?_
  refine lv_iload_n hx hb dX5_isOver_12 rfl (lv_at hl 2 rfl) ?_
  replace z := ob z
  obtain ⟨b5, zb5, z⟩ := z
  obtain ⟨yb5, zb5⟩ := rcv_e zb5
  replace z := ob z
  obtain ⟨x6, zx6, z⟩ := z
  refine c_callq hH hS hRM (fun _ _ f1 f2 => va_runVN (b := b5) (As := [.int a2]) (rest := [.int v3]) S (metX0_filmOf zx6) ⟨va_cnB 1 hts (lw_meth q1330) rfl rfl rfl (hG.2.1.2.1 _ _ _ _ q1380) (hts _ q167) (by decide +kernel) ⟨(Nat.le_of_ble_eq_true rfl), (Nat.le_of_ble_eq_true rfl)⟩, hts _ q1329, hts _ qs40⟩ (c_preV hG hH hS (ci := 0) rfl zb5) rfl rfl hl.1 (by rw [yb5]; rfl) (lv_room (Nat.le_of_ble_eq_true rfl)) dX5_isOver_13 ⟨f1, f2⟩) (fun H locs hH hS => ?_)
  replace z := ob z
  obtain ⟨v7, zv7, z⟩ := z
  obtain ⟨fsv7, yv7, zv7⟩ := gI_e zv7
  refine c_getN S hG hH (ci := 7) (k := 1) rfl in_X8 (Nat.le_of_ble_eq_true rfl) q931 (fun _ y => y) yv7 zv7 dX5_isOver_16 ?_
  refine lv_icmp_ne (tgt := 26) hx hb dX5_isOver_19 (by decide) (fun c8 => ?_) (fun c8 => ?_)
  · replace z := ie c8 z
    refine lv_iconst (v := (0 : Int32)) hx hb dX5_isOver_26 (by decide) ?_
    exact c_iret' S hr hlk rfl hH hS z dX5_isOver_27
  replace z := it c8 z
  refine lv_iconst (v := (1 : Int32)) hx hb dX5_isOver_22 (by decide) ?_
  refine lv_goto (tgt := 27) hx hb dX5_isOver_23 (by decide) ?_
  exact c_iret' S hr hlk rfl hH hS z dX5_isOver_27
/-! FourOnOne$State.score(II)I -/
def fX5_score_5 (K : KE) (h : HS) (a0 : Nat) : Nat → Int32 → Int32 → Int32 → Int32 → Option (Int32)
  | 0, _, _, _, _ => none
  | n + 1, a1, a2, a3, a4 =>
    (gR K h (some a0) 5 10).bind fun v1 =>
    (rcv K h v1 0).bind fun b2 =>
    (fX0_kinds K h b2).bind fun x3 =>
    if x3 ≤ a4 then
      some a3
    else
    (gR K h (some a0) 5 10).bind fun v5 =>
    (rcv K h v5 0).bind fun b6 =>
    (fX0_filmOf K h b6 a2).bind fun x7 =>
    (gR K h x7 7 2).bind fun v8 =>
    (cI K h v8 0 a4).bind fun v9 =>
    (gR K h (some a0) 5 3).bind fun v10 =>
    (cR K h v10 8 a1).bind fun v11 =>
    (cI K h v11 0 a4).bind fun v12 =>
    fX5_score_5 K h a0 n a1 a2 (a3 + (v9 * v12)) (a4 + (1 : Int32))
def fX5_score (K : KE) (h : HS) (a0 : Nat) (a1 : Int32) (a2 : Int32) : Option (Int32) :=
  fX5_score_5 K h a0 FU a1 a2 (1 : Int32) (0 : Int32)
set_option maxHeartbeats 4000000 in
theorem wX5_score_5 {p : Program} {l : Launch} {e : Env} {s : State} {m : MethodId} {args : Array Value} {below : List Frame} {meth : Method} {c : Code} {A : Nat → Prop} {D : va_G} {ac : Nat → ClassId} {K : KE} {h : HS} {a0 : Nat} (S : CallFix p m c cX5_score 5 s args lw_all RX5) (hr : meth.sig.returnType = some .int) (hlk : meth.locks = false) (hnm : meth.name = "score") (hG : GK A D ac K s) (hRM : RM K s (rmC 5 85 K h)) {x : Int32} : ∀ (n : Nat) (a1 : Int32) (a2 : Int32) (a3 : Int32) (a4 : Int32), fX5_score_5 K h a0 n a1 a2 a3 a4 = some x → cGo p l e (rmC 5 85 K h) s m args below meth c A D ac K (MQ below (cQi A D ac K (h, x)) args s (K.2.2.1 - h.2.1) (K.2.2.2 - h.2.2) A) 5 5 [(0, va_rf (some a0)), (1, .int a1), (2, .int a2), (3, .int a3), (4, .int a4)] [] h := by
  obtain ⟨hx, hb, hml, hown, hts⟩ := id S
  intro n
  induction n with
  | zero => intro a1 a2 a3 a4 z; cases z
  | succ n ih =>
    intro a1 a2 a3 a4 z H locs hH hS ls hl
    rw [fX5_score_5] at z
    refine lv_iload hx hb dX5_score_5 (lv_at hl 4 rfl) ?_
    refine c_aload_n hx hb dX5_score_7 rfl (lv_at hl 0 rfl) ?_
    replace z := ob z
    obtain ⟨v1, zv1, z⟩ := z
    obtain ⟨fsv1, yv1, zv1⟩ := gR_e zv1
    refine c_get S hG hH (ci := 5) (k := 10) rfl in_X5 (Nat.le_of_ble_eq_true rfl) q449 (fun _ y => y) yv1 zv1 dX5_score_8 ?_
    replace z := ob z
    obtain ⟨b2, zb2, z⟩ := z
    obtain ⟨yb2, zb2⟩ := rcv_e zb2
    replace z := ob z
    obtain ⟨x3, zx3, z⟩ := z
    refine c_calli hH hS hRM (fun _ _ f1 f2 => va_runVN (b := b2) (As := []) (rest := [.int a4]) S (metX0_kinds zx3) ⟨va_cnB 0 hts (lw_meth q1271) rfl rfl rfl (hG.2.1.2.1 _ _ _ _ q1385) (hts _ q167) (by decide +kernel) ⟨(Nat.le_of_ble_eq_true rfl), (Nat.le_of_ble_eq_true rfl)⟩, hts _ q1270, hts _ qs35⟩ (c_preV hG hH hS (ci := 0) rfl zb2) rfl rfl hl.1 (by rw [yb2]; rfl) (lv_room (Nat.le_of_ble_eq_true rfl)) dX5_score_11 ⟨f1, f2⟩) (fun H locs hH hS => ?_)
    refine lv_icmp_ge (tgt := 50) hx hb dX5_score_14 (by decide) (fun c4 => ?_) (fun c4 => ?_)
    · replace z := it c4 z
      refine lv_iload_n hx hb dX5_score_50 rfl (lv_at hl 3 rfl) ?_
      exact c_iret' S hr hlk rfl hH hS z dX5_score_51
    replace z := ie c4 z
    refine lv_iload_n hx hb dX5_score_17 rfl (lv_at hl 3 rfl) ?_
    refine c_aload_n hx hb dX5_score_18 rfl (lv_at hl 0 rfl) ?_
    replace z := ob z
    obtain ⟨v5, zv5, z⟩ := z
    obtain ⟨fsv5, yv5, zv5⟩ := gR_e zv5
    refine c_get S hG hH (ci := 5) (k := 10) rfl in_X5 (Nat.le_of_ble_eq_true rfl) q449 (fun _ y => y) yv5 zv5 dX5_score_19 ?_
    refine lv_iload_n hx hb dX5_score_22 rfl (lv_at hl 2 rfl) ?_
    replace z := ob z
    obtain ⟨b6, zb6, z⟩ := z
    obtain ⟨yb6, zb6⟩ := rcv_e zb6
    replace z := ob z
    obtain ⟨x7, zx7, z⟩ := z
    refine c_callq hH hS hRM (fun _ _ f1 f2 => va_runVN (b := b6) (As := [.int a2]) (rest := [.int a3]) S (metX0_filmOf zx7) ⟨va_cnB 1 hts (lw_meth q1330) rfl rfl rfl (hG.2.1.2.1 _ _ _ _ q1380) (hts _ q167) (by decide +kernel) ⟨(Nat.le_of_ble_eq_true rfl), (Nat.le_of_ble_eq_true rfl)⟩, hts _ q1329, hts _ qs40⟩ (c_preV hG hH hS (ci := 0) rfl zb6) rfl rfl hl.1 (by rw [yb6]; rfl) (lv_room (Nat.le_of_ble_eq_true rfl)) dX5_score_23 ⟨f1, f2⟩) (fun H locs hH hS => ?_)
    replace z := ob z
    obtain ⟨v8, zv8, z⟩ := z
    obtain ⟨fsv8, yv8, zv8⟩ := gR_e zv8
    refine c_getN S hG hH (ci := 7) (k := 2) rfl in_X8 (Nat.le_of_ble_eq_true rfl) q934 (fun _ y => y) yv8 zv8 dX5_score_26 ?_
    refine lv_iload hx hb dX5_score_29 (lv_at hl 4 rfl) ?_
    replace z := ob z
    obtain ⟨v9, zv9, z⟩ := z
    refine c_iald S hG hH zv9 dX5_score_31 ?_
    refine c_aload_n hx hb dX5_score_32 rfl (lv_at hl 0 rfl) ?_
    replace z := ob z
    obtain ⟨v10, zv10, z⟩ := z
    obtain ⟨fsv10, yv10, zv10⟩ := gR_e zv10
    refine c_get S hG hH (ci := 5) (k := 3) rfl in_X5 (Nat.le_of_ble_eq_true rfl) q435 (fun _ y => y) yv10 zv10 dX5_score_33 ?_
    refine lv_iload_n hx hb dX5_score_36 rfl (lv_at hl 1 rfl) ?_
    replace z := ob z
    obtain ⟨v11, zv11, z⟩ := z
    refine c_aald S hG hH 8 rfl rfl zv11 dX5_score_37 ?_
    refine lv_iload hx hb dX5_score_38 (lv_at hl 4 rfl) ?_
    replace z := ob z
    obtain ⟨v12, zv12, z⟩ := z
    refine c_iald S hG hH zv12 dX5_score_40 ?_
    refine lv_imul hx hb dX5_score_41 ?_
    refine lv_iadd hx hb dX5_score_42 ?_
    refine lv_istore_n (lv' := [(3, .int (a3 + (v9 * v12))), (0, va_rf (some a0)), (1, .int a1), (2, .int a2), (4, .int a4)]) hx hb dX5_score_43 rfl hl (by decide) rfl (fun ls hl => ?_)
    refine lv_iinc (v := (a4 + (1 : Int32))) (lv' := [(4, .int (a4 + (1 : Int32))), (3, .int (a3 + (v9 * v12))), (0, va_rf (some a0)), (1, .int a1), (2, .int a2)]) hx hb dX5_score_44 hl (k := 4) rfl rfl (by decide) rfl (fun ls hl => ?_)
    refine lv_goto (tgt := 5) hx hb dX5_score_47 (by decide) ?_
    exact ih a1 a2 (a3 + (v9 * v12)) (a4 + (1 : Int32)) z _ _ hH hS _ (lv_sub hl [2, 3, 4, 1, 0] rfl)
set_option maxHeartbeats 4000000 in
theorem metX5_score {l : Launch} {A : Nat → Prop} {D : va_G} {ac : Nat → ClassId} {K : KE} {h : HS} {a0 : Nat} {a1 : Int32} {a2 : Int32} {x : Int32} (z : fX5_score K h a0 a1 a2 = some x) : Met l yX5_score (ws_ yX5_score cX5_score 5 (some .int)) (rmC 5 85 K h) (cP A D ac K h [va_rf (some a0), .int a1, .int a2]) (cQi A D ac K (h, x)) (K.2.2.1 - h.2.1) (K.2.2.2 - h.2.2) A := by
  refine c_entry (plainFor_of_name (by decide)) (Nat.le_of_ble_eq_true rfl) ?_
  intro p e s m below meth c S hr hlk hnm hG hRM hH hS ls hl
  replace hl : lv_has ls 5 [(0, va_rf (some a0)), (1, .int a1), (2, .int a2)] := hl
  replace hnm : meth.name = "score" := hnm
  replace S : CallFix p m c cX5_score 5 s _ lw_all RX5 := S
  obtain ⟨hx, hb, hml, hown, hts⟩ := id S
  unfold fX5_score at z
  refine lv_iconst (v := (1 : Int32)) hx hb dX5_score_0 (by decide) ?_
  refine lv_istore_n (lv' := [(3, .int (1 : Int32)), (0, va_rf (some a0)), (1, .int a1), (2, .int a2)]) hx hb dX5_score_1 rfl hl (by decide) rfl (fun ls hl => ?_)
  refine lv_iconst (v := (0 : Int32)) hx hb dX5_score_2 (by decide) ?_
  refine lv_istore (lv' := [(4, .int (0 : Int32)), (3, .int (1 : Int32)), (0, va_rf (some a0)), (1, .int a1), (2, .int a2)]) hx hb dX5_score_3 hl (by decide) rfl (fun ls hl => ?_)
  exact wX5_score_5 S hr hlk hnm hG hRM FU a1 a2 (1 : Int32) (0 : Int32) z _ _ hH hS _ (lv_sub hl [2, 3, 4, 1, 0] rfl)
/-! FourOnOne$State.profile(I)I -/
def fX5_profile (K : KE) (h : HS) (a0 : Nat) (a1 : Int32) : Option (Int32) :=
  if a1 = (-1 : Int32) then
    some (0 : Int32)
  else
  (gI K h (some a0) 5 1).bind fun v2 =>
  (fX0_has K h v2 a1).bind fun x3 =>
  if x3 = 0 then
    some (0 : Int32)
  else
  some (a1 + (1 : Int32))
set_option maxHeartbeats 4000000 in
theorem metX5_profile {l : Launch} {A : Nat → Prop} {D : va_G} {ac : Nat → ClassId} {K : KE} {h : HS} {a0 : Nat} {a1 : Int32} {x : Int32} (z : fX5_profile K h a0 a1 = some x) : Met l yX5_profile (ws_ yX5_profile cX5_profile 2 (some .int)) (rmC 2 21 K h) (cP A D ac K h [va_rf (some a0), .int a1]) (cQi A D ac K (h, x)) (K.2.2.1 - h.2.1) (K.2.2.2 - h.2.2) A := by
  refine c_entry (plainFor_of_name (by decide)) (Nat.le_of_ble_eq_true rfl) ?_
  intro p e s m below meth c S hr hlk hnm hG hRM hH hS ls hl
  replace hl : lv_has ls 2 [(0, va_rf (some a0)), (1, .int a1)] := hl
  replace hnm : meth.name = "profile" := hnm
  replace S : CallFix p m c cX5_profile 2 s _ lw_all RX5 := S
  obtain ⟨hx, hb, hml, hown, hts⟩ := id S
  unfold fX5_profile at z
  refine lv_iload_n hx hb dX5_profile_0 rfl (lv_at hl 1 rfl) ?_
  refine lv_iconst (v := (-1 : Int32)) hx hb dX5_profile_1 (by decide) ?_
  refine lv_icmp_eq (tgt := 22) hx hb dX5_profile_2 (by decide) (fun c1 => ?_) (fun c1 => ?_)
  · replace z := it c1 z
    refine lv_iconst (v := (0 : Int32)) hx hb dX5_profile_22 (by decide) ?_
    exact c_iret' S hr hlk rfl hH hS z dX5_profile_23
  replace z := ie c1 z
  refine c_aload_n hx hb dX5_profile_5 rfl (lv_at hl 0 rfl) ?_
  replace z := ob z
  obtain ⟨v2, zv2, z⟩ := z
  obtain ⟨fsv2, yv2, zv2⟩ := gI_e zv2
  refine c_get S hG hH (ci := 5) (k := 1) rfl in_X5 (Nat.le_of_ble_eq_true rfl) q431 (fun _ y => y) yv2 zv2 dX5_profile_6 ?_
  refine lv_iload_n hx hb dX5_profile_9 rfl (lv_at hl 1 rfl) ?_
  replace z := ob z
  obtain ⟨x3, zx3, z⟩ := z
  refine c_calli hH hS hRM (fun _ _ f1 f2 => va_runSN (As := [.int v2, .int a1]) (rest := []) S (metX0_has zx3) ⟨va_cnB 2 hts (lw_meth q976) rfl rfl rfl (hG.2.1.2.1 _ _ _ _ q1370) (hts _ q167) (by decide +kernel) ⟨(Nat.le_of_ble_eq_true rfl), (Nat.le_of_ble_eq_true rfl)⟩, hts _ q975, trivial⟩ (c_pre hG hH hS) rfl rfl hl.1 rfl (lv_room (Nat.le_of_ble_eq_true rfl)) dX5_profile_10 ⟨f1, f2⟩) (fun H locs hH hS => ?_)
  refine lv_if_eq (tgt := 22) hx hb dX5_profile_13 (by decide) (fun c4 => ?_) (fun c4 => ?_)
  · replace z := it c4 z
    refine lv_iconst (v := (0 : Int32)) hx hb dX5_profile_22 (by decide) ?_
    exact c_iret' S hr hlk rfl hH hS z dX5_profile_23
  replace z := ie c4 z
  refine lv_iload_n hx hb dX5_profile_16 rfl (lv_at hl 1 rfl) ?_
  refine lv_iconst (v := (1 : Int32)) hx hb dX5_profile_17 (by decide) ?_
  refine lv_iadd hx hb dX5_profile_18 ?_
  refine lv_goto (tgt := 23) hx hb dX5_profile_19 (by decide) ?_
  exact c_iret' S hr hlk rfl hH hS z dX5_profile_23
/-! FourOnOne.held(J)J -/
def fX0_held (K : KE) (h : HS) (a0 : Int64) : Option (Int64) :=
  (fJ12_min_2 K h (1000000 : Int64) a0).bind fun x1 =>
  (fJ12_max_2 K h (-1000000 : Int64) x1).bind fun x2 =>
  some x2
set_option maxHeartbeats 4000000 in
theorem metX0_held {l : Launch} {A : Nat → Prop} {D : va_G} {ac : Nat → ClassId} {K : KE} {h : HS} {a0 : Int64} {x : Int64} (z : fX0_held K h a0 = some x) : Met l yX0_held (ws_ yX0_held cX0_held 2 (some .long)) (rmC 2 23 K h) (cP A D ac K h [.long a0]) (cQl A D ac K (h, x)) (K.2.2.1 - h.2.1) (K.2.2.2 - h.2.2) A := by
  refine c_entry (plainFor_of_name (by decide)) (Nat.le_of_ble_eq_true rfl) ?_
  intro p e s m below meth c S hr hlk hnm hG hRM hH hS ls hl
  replace hl : lv_has ls 2 [(0, .long a0)] := hl
  replace hnm : meth.name = "held" := hnm
  replace S : CallFix p m c cX0_held 2 s _ lw_all RX0 := S
  obtain ⟨hx, hb, hml, hown, hts⟩ := id S
  unfold fX0_held at z
  refine lv_ldc2 hx hb hown (hts _ q1415) dX0_held_0 ?_
  refine lv_ldc2 hx hb hown (hts _ q1416) dX0_held_3 ?_
  refine lv_lload_n hx hb dX0_held_6 rfl (lv_at hl 0 rfl) ?_
  replace z := ob z
  obtain ⟨x1, zx1, z⟩ := z
  refine c_calll hH hS hRM (fun _ _ f1 f2 => va_runS (As := [.long (1000000 : Int64), .long a0]) (rest := [.long (-1000000 : Int64)]) S (metJ12_min_2 zx1) (va_cwS 2 hts (lw_S q1417 q1418 q187 q1419) rfl rfl rfl (by decide +kernel) ⟨(Nat.le_of_ble_eq_true rfl), (Nat.le_of_ble_eq_true rfl)⟩) (c_pre hG hH hS) rfl rfl hl.1 rfl (lv_room (Nat.le_of_ble_eq_true rfl)) dX0_held_7 ⟨f1, f2⟩) (fun H locs hH hS => ?_)
  replace z := ob z
  obtain ⟨x2, zx2, z⟩ := z
  refine c_calll hH hS hRM (fun _ _ f1 f2 => va_runS (As := [.long (-1000000 : Int64), .long x1]) (rest := []) S (metJ12_max_2 zx2) (va_cwS 2 hts (lw_S q1420 q1421 q187 q1422) rfl rfl rfl (by decide +kernel) ⟨(Nat.le_of_ble_eq_true rfl), (Nat.le_of_ble_eq_true rfl)⟩) (c_pre hG hH hS) rfl rfl hl.1 rfl (lv_room (Nat.le_of_ble_eq_true rfl)) dX0_held_10 ⟨f1, f2⟩) (fun H locs hH hS => ?_)
  exact c_lret' S hr hlk hH hS z dX0_held_13
/-! FourOnOne.looked(IJ)J -/
def fX0_looked (K : KE) (h : HS) (a0 : Nat) (a1 : Int32) (a2 : Int64) : Option (Int64) :=
  if a1 = 0 then
    if a2 < (0 : Int64) then
      some (0 : Int64)
    else
    (rcv K h (some a0) 0).bind fun b3 =>
    (fX0_kinds K h b3).bind fun x4 =>
    if x4.toInt64 ≤ a2 then
      some (0 : Int64)
    else
    (gI K h (some a0) 0 19).bind fun v6 =>
    (rcv K h (some a0) 0).bind fun b7 =>
    (fX0_filmOf K h b7 v6).bind fun x8 =>
    (gR K h x8 7 2).bind fun v9 =>
    (cI K h v9 0 a2.toInt32).bind fun v10 =>
    some v10.toInt64
  else
  some (0 : Int64)
set_option maxHeartbeats 4000000 in
theorem metX0_looked {l : Launch} {A : Nat → Prop} {D : va_G} {ac : Nat → ClassId} {K : KE} {h : HS} {a0 : Nat} {a1 : Int32} {a2 : Int64} {x : Int64} (z : fX0_looked K h a0 a1 a2 = some x) : Met l yX0_looked (ws_ yX0_looked cX0_looked 4 (some .long)) (rmC 5 85 K h) (cP A D ac K h [va_rf (some a0), .int a1, .long a2]) (cQl A D ac K (h, x)) (K.2.2.1 - h.2.1) (K.2.2.2 - h.2.2) A := by
  refine c_entry (plainFor_of_name (by decide)) (Nat.le_of_ble_eq_true rfl) ?_
  intro p e s m below meth c S hr hlk hnm hG hRM hH hS ls hl
  replace hl : lv_has ls 4 [(0, va_rf (some a0)), (1, .int a1), (2, .long a2)] := hl
  replace hnm : meth.name = "looked" := hnm
  replace S : CallFix p m c cX0_looked 4 s _ lw_all RX0 := S
  obtain ⟨hx, hb, hml, hown, hts⟩ := id S
  unfold fX0_looked at z
  refine lv_iload_n hx hb dX0_looked_0 rfl (lv_at hl 1 rfl) ?_
  refine lv_if_ne (tgt := 38) hx hb dX0_looked_1 (by decide) (fun c1 => ?_) (fun c1 => ?_)
  · replace z := ie c1 z
    refine lv_lconst (v := (0 : Int64)) hx hb dX0_looked_38 (by decide) ?_
    exact c_lret' S hr hlk hH hS z dX0_looked_39
  replace z := it c1 z
  refine lv_lload_n hx hb dX0_looked_4 rfl (lv_at hl 2 rfl) ?_
  refine lv_lconst (v := (0 : Int64)) hx hb dX0_looked_5 (by decide) ?_
  refine W.lcmp hx hb dX0_looked_6 ?_
  refine lv_if_lt (tgt := 38) hx hb dX0_looked_7 (by decide) (fun c2 => ?_) (fun c2 => ?_)
  · replace z := it ((lg_cmp_lt _ _).mp c2) z
    refine lv_lconst (v := (0 : Int64)) hx hb dX0_looked_38 (by decide) ?_
    exact c_lret' S hr hlk hH hS z dX0_looked_39
  replace z := ie (fun q => c2 ((lg_cmp_lt _ _).mpr q)) z
  refine lv_lload_n hx hb dX0_looked_10 rfl (lv_at hl 2 rfl) ?_
  refine c_aload_n hx hb dX0_looked_11 rfl (lv_at hl 0 rfl) ?_
  replace z := ob z
  obtain ⟨b3, zb3, z⟩ := z
  obtain ⟨yb3, zb3⟩ := rcv_e zb3
  replace z := ob z
  obtain ⟨x4, zx4, z⟩ := z
  refine c_calli hH hS hRM (fun _ _ f1 f2 => va_runV (b := b3) (As := []) (rest := [.long a2]) S (metX0_kinds zx4) (cwV 0 hts (lw_V q1268 q1270 qs35 q167 q1271) rfl rfl rfl (by decide +kernel) ⟨(Nat.le_of_ble_eq_true rfl), (Nat.le_of_ble_eq_true rfl)⟩) (c_preV hG hH hS (ci := 0) rfl zb3) rfl rfl hl.1 (by rw [yb3]; rfl) (lv_room (Nat.le_of_ble_eq_true rfl)) dX0_looked_12 ⟨f1, f2⟩) (fun H locs hH hS => ?_)
  refine lv_i2l (v := x4.toInt64) hx hb dX0_looked_15 rfl ?_
  refine W.lcmp hx hb dX0_looked_16 ?_
  refine lv_if_ge (tgt := 38) hx hb dX0_looked_17 (by decide) (fun c5 => ?_) (fun c5 => ?_)
  · replace z := it ((lg_cmp_ge _ _).mp c5) z
    refine lv_lconst (v := (0 : Int64)) hx hb dX0_looked_38 (by decide) ?_
    exact c_lret' S hr hlk hH hS z dX0_looked_39
  replace z := ie (fun q => c5 ((lg_cmp_ge _ _).mpr q)) z
  refine c_aload_n hx hb dX0_looked_20 rfl (lv_at hl 0 rfl) ?_
  refine c_aload_n hx hb dX0_looked_21 rfl (lv_at hl 0 rfl) ?_
  replace z := ob z
  obtain ⟨v6, zv6, z⟩ := z
  obtain ⟨fsv6, yv6, zv6⟩ := gI_e zv6
  refine c_get S hG hH (ci := 0) (k := 19) rfl in_X0 (Nat.le_of_ble_eq_true rfl) q499 (fun _ y => y) yv6 zv6 dX0_looked_22 ?_
  replace z := ob z
  obtain ⟨b7, zb7, z⟩ := z
  obtain ⟨yb7, zb7⟩ := rcv_e zb7
  replace z := ob z
  obtain ⟨x8, zx8, z⟩ := z
  refine c_callq hH hS hRM (fun _ _ f1 f2 => va_runV (b := b7) (As := [.int v6]) (rest := []) S (metX0_filmOf zx8) (cwV 1 hts (lw_V q1327 q1329 qs40 q167 q1330) rfl rfl rfl (by decide +kernel) ⟨(Nat.le_of_ble_eq_true rfl), (Nat.le_of_ble_eq_true rfl)⟩) (c_preV hG hH hS (ci := 0) rfl zb7) rfl rfl hl.1 (by rw [yb7]; rfl) (lv_room (Nat.le_of_ble_eq_true rfl)) dX0_looked_25 ⟨f1, f2⟩) (fun H locs hH hS => ?_)
  replace z := ob z
  obtain ⟨v9, zv9, z⟩ := z
  obtain ⟨fsv9, yv9, zv9⟩ := gR_e zv9
  refine c_getN S hG hH (ci := 7) (k := 2) rfl in_X8 (Nat.le_of_ble_eq_true rfl) q936 (fun _ y => y) yv9 zv9 dX0_looked_28 ?_
  refine lv_lload_n hx hb dX0_looked_31 rfl (lv_at hl 2 rfl) ?_
  refine lv_l2i (v := a2.toInt32) hx hb dX0_looked_32 rfl ?_
  replace z := ob z
  obtain ⟨v10, zv10, z⟩ := z
  refine c_iald S hG hH zv10 dX0_looked_33 ?_
  refine lv_i2l (v := v10.toInt64) hx hb dX0_looked_34 rfl ?_
  refine lv_goto (tgt := 39) hx hb dX0_looked_35 (by decide) ?_
  exact c_lret' S hr hlk hH hS z dX0_looked_39
/-! FourOnOne.worthOf(II)I -/
def fX0_worthOf_5 (K : KE) (h : HS) (a0 : Nat) : Nat → Int32 → Int32 → Int32 → Int32 → Option (Int32)
  | 0, _, _, _, _ => none
  | n + 1, a1, a2, a3, a4 =>
    (rcv K h (some a0) 0).bind fun b1 =>
    (fX0_kinds K h b1).bind fun x2 =>
    if x2 ≤ a4 then
      some a3
    else
    (rcv K h (some a0) 0).bind fun b4 =>
    (fX0_filmOf K h b4 a2).bind fun x5 =>
    (gR K h x5 7 2).bind fun v6 =>
    (cI K h v6 0 a4).bind fun v7 =>
    (rcv K h (some a0) 0).bind fun b8 =>
    (fX0_personOf K h b8 a1).bind fun x9 =>
    (gR K h x9 8 3).bind fun v10 =>
    (cI K h v10 0 a4).bind fun v11 =>
    fX0_worthOf_5 K h a0 n a1 a2 (a3 + (v7 * v11)) (a4 + (1 : Int32))
def fX0_worthOf (K : KE) (h : HS) (a0 : Nat) (a1 : Int32) (a2 : Int32) : Option (Int32) :=
  fX0_worthOf_5 K h a0 FU a1 a2 (0 : Int32) (0 : Int32)
set_option maxHeartbeats 4000000 in
theorem wX0_worthOf_5 {p : Program} {l : Launch} {e : Env} {s : State} {m : MethodId} {args : Array Value} {below : List Frame} {meth : Method} {c : Code} {A : Nat → Prop} {D : va_G} {ac : Nat → ClassId} {K : KE} {h : HS} {a0 : Nat} (S : CallFix p m c cX0_worthOf 5 s args lw_all RX0) (hr : meth.sig.returnType = some .int) (hlk : meth.locks = false) (hnm : meth.name = "worthOf") (hG : GK A D ac K s) (hRM : RM K s (rmC 5 85 K h)) {x : Int32} : ∀ (n : Nat) (a1 : Int32) (a2 : Int32) (a3 : Int32) (a4 : Int32), fX0_worthOf_5 K h a0 n a1 a2 a3 a4 = some x → cGo p l e (rmC 5 85 K h) s m args below meth c A D ac K (MQ below (cQi A D ac K (h, x)) args s (K.2.2.1 - h.2.1) (K.2.2.2 - h.2.2) A) 5 5 [(0, va_rf (some a0)), (1, .int a1), (2, .int a2), (3, .int a3), (4, .int a4)] [] h := by
  obtain ⟨hx, hb, hml, hown, hts⟩ := id S
  intro n
  induction n with
  | zero => intro a1 a2 a3 a4 z; cases z
  | succ n ih =>
    intro a1 a2 a3 a4 z H locs hH hS ls hl
    rw [fX0_worthOf_5] at z
    refine lv_iload hx hb dX0_worthOf_5 (lv_at hl 4 rfl) ?_
    refine c_aload_n hx hb dX0_worthOf_7 rfl (lv_at hl 0 rfl) ?_
    replace z := ob z
    obtain ⟨b1, zb1, z⟩ := z
    obtain ⟨yb1, zb1⟩ := rcv_e zb1
    replace z := ob z
    obtain ⟨x2, zx2, z⟩ := z
    refine c_calli hH hS hRM (fun _ _ f1 f2 => va_runV (b := b1) (As := []) (rest := [.int a4]) S (metX0_kinds zx2) (cwV 0 hts (lw_V q1268 q1270 qs35 q167 q1271) rfl rfl rfl (by decide +kernel) ⟨(Nat.le_of_ble_eq_true rfl), (Nat.le_of_ble_eq_true rfl)⟩) (c_preV hG hH hS (ci := 0) rfl zb1) rfl rfl hl.1 (by rw [yb1]; rfl) (lv_room (Nat.le_of_ble_eq_true rfl)) dX0_worthOf_8 ⟨f1, f2⟩) (fun H locs hH hS => ?_)
    refine lv_icmp_ge (tgt := 46) hx hb dX0_worthOf_11 (by decide) (fun c3 => ?_) (fun c3 => ?_)
    · replace z := it c3 z
      refine lv_iload_n hx hb dX0_worthOf_46 rfl (lv_at hl 3 rfl) ?_
      exact c_iret' S hr hlk rfl hH hS z dX0_worthOf_47
    replace z := ie c3 z
    refine lv_iload_n hx hb dX0_worthOf_14 rfl (lv_at hl 3 rfl) ?_
    refine c_aload_n hx hb dX0_worthOf_15 rfl (lv_at hl 0 rfl) ?_
    refine lv_iload_n hx hb dX0_worthOf_16 rfl (lv_at hl 2 rfl) ?_
    replace z := ob z
    obtain ⟨b4, zb4, z⟩ := z
    obtain ⟨yb4, zb4⟩ := rcv_e zb4
    replace z := ob z
    obtain ⟨x5, zx5, z⟩ := z
    refine c_callq hH hS hRM (fun _ _ f1 f2 => va_runV (b := b4) (As := [.int a2]) (rest := [.int a3]) S (metX0_filmOf zx5) (cwV 1 hts (lw_V q1327 q1329 qs40 q167 q1330) rfl rfl rfl (by decide +kernel) ⟨(Nat.le_of_ble_eq_true rfl), (Nat.le_of_ble_eq_true rfl)⟩) (c_preV hG hH hS (ci := 0) rfl zb4) rfl rfl hl.1 (by rw [yb4]; rfl) (lv_room (Nat.le_of_ble_eq_true rfl)) dX0_worthOf_17 ⟨f1, f2⟩) (fun H locs hH hS => ?_)
    replace z := ob z
    obtain ⟨v6, zv6, z⟩ := z
    obtain ⟨fsv6, yv6, zv6⟩ := gR_e zv6
    refine c_getN S hG hH (ci := 7) (k := 2) rfl in_X8 (Nat.le_of_ble_eq_true rfl) q936 (fun _ y => y) yv6 zv6 dX0_worthOf_20 ?_
    refine lv_iload hx hb dX0_worthOf_23 (lv_at hl 4 rfl) ?_
    replace z := ob z
    obtain ⟨v7, zv7, z⟩ := z
    refine c_iald S hG hH zv7 dX0_worthOf_25 ?_
    refine c_aload_n hx hb dX0_worthOf_26 rfl (lv_at hl 0 rfl) ?_
    refine lv_iload_n hx hb dX0_worthOf_27 rfl (lv_at hl 1 rfl) ?_
    replace z := ob z
    obtain ⟨b8, zb8, z⟩ := z
    obtain ⟨yb8, zb8⟩ := rcv_e zb8
    replace z := ob z
    obtain ⟨x9, zx9, z⟩ := z
    refine c_callq hH hS hRM (fun _ _ f1 f2 => va_runV (b := b8) (As := [.int a1]) (rest := [.int v7, .int a3]) S (metX0_personOf zx9) (cwV 1 hts (lw_V q1344 q1346 qs43 q167 q1347) rfl rfl rfl (by decide +kernel) ⟨(Nat.le_of_ble_eq_true rfl), (Nat.le_of_ble_eq_true rfl)⟩) (c_preV hG hH hS (ci := 0) rfl zb8) rfl rfl hl.1 (by rw [yb8]; rfl) (lv_room (Nat.le_of_ble_eq_true rfl)) dX0_worthOf_28 ⟨f1, f2⟩) (fun H locs hH hS => ?_)
    replace z := ob z
    obtain ⟨v10, zv10, z⟩ := z
    obtain ⟨fsv10, yv10, zv10⟩ := gR_e zv10
    refine c_getN S hG hH (ci := 8) (k := 3) rfl in_X9 (Nat.le_of_ble_eq_true rfl) q963 (fun _ y => y) yv10 zv10 dX0_worthOf_31 ?_
    refine lv_iload hx hb dX0_worthOf_34 (lv_at hl 4 rfl) ?_
    replace z := ob z
    obtain ⟨v11, zv11, z⟩ := z
    refine c_iald S hG hH zv11 dX0_worthOf_36 ?_
    refine lv_imul hx hb dX0_worthOf_37 ?_
    refine lv_iadd hx hb dX0_worthOf_38 ?_
    refine lv_istore_n (lv' := [(3, .int (a3 + (v7 * v11))), (0, va_rf (some a0)), (1, .int a1), (2, .int a2), (4, .int a4)]) hx hb dX0_worthOf_39 rfl hl (by decide) rfl (fun ls hl => ?_)
    refine lv_iinc (v := (a4 + (1 : Int32))) (lv' := [(4, .int (a4 + (1 : Int32))), (3, .int (a3 + (v7 * v11))), (0, va_rf (some a0)), (1, .int a1), (2, .int a2)]) hx hb dX0_worthOf_40 hl (k := 4) rfl rfl (by decide) rfl (fun ls hl => ?_)
    refine lv_goto (tgt := 5) hx hb dX0_worthOf_43 (by decide) ?_
    exact ih a1 a2 (a3 + (v7 * v11)) (a4 + (1 : Int32)) z _ _ hH hS _ (lv_sub hl [2, 3, 4, 1, 0] rfl)
set_option maxHeartbeats 4000000 in
theorem metX0_worthOf {l : Launch} {A : Nat → Prop} {D : va_G} {ac : Nat → ClassId} {K : KE} {h : HS} {a0 : Nat} {a1 : Int32} {a2 : Int32} {x : Int32} (z : fX0_worthOf K h a0 a1 a2 = some x) : Met l yX0_worthOf (ws_ yX0_worthOf cX0_worthOf 5 (some .int)) (rmC 5 85 K h) (cP A D ac K h [va_rf (some a0), .int a1, .int a2]) (cQi A D ac K (h, x)) (K.2.2.1 - h.2.1) (K.2.2.2 - h.2.2) A := by
  refine c_entry (plainFor_of_name (by decide)) (Nat.le_of_ble_eq_true rfl) ?_
  intro p e s m below meth c S hr hlk hnm hG hRM hH hS ls hl
  replace hl : lv_has ls 5 [(0, va_rf (some a0)), (1, .int a1), (2, .int a2)] := hl
  replace hnm : meth.name = "worthOf" := hnm
  replace S : CallFix p m c cX0_worthOf 5 s _ lw_all RX0 := S
  obtain ⟨hx, hb, hml, hown, hts⟩ := id S
  unfold fX0_worthOf at z
  refine lv_iconst (v := (0 : Int32)) hx hb dX0_worthOf_0 (by decide) ?_
  refine lv_istore_n (lv' := [(3, .int (0 : Int32)), (0, va_rf (some a0)), (1, .int a1), (2, .int a2)]) hx hb dX0_worthOf_1 rfl hl (by decide) rfl (fun ls hl => ?_)
  refine lv_iconst (v := (0 : Int32)) hx hb dX0_worthOf_2 (by decide) ?_
  refine lv_istore (lv' := [(4, .int (0 : Int32)), (3, .int (0 : Int32)), (0, va_rf (some a0)), (1, .int a1), (2, .int a2)]) hx hb dX0_worthOf_3 hl (by decide) rfl (fun ls hl => ?_)
  exact wX0_worthOf_5 S hr hlk hnm hG hRM FU a1 a2 (0 : Int32) (0 : Int32) z _ _ hH hS _ (lv_sub hl [2, 3, 4, 1, 0] rfl)
/-! FourOnOne.worth(II)I -/
def fX0_worth (K : KE) (h : HS) (a0 : Nat) (a1 : Int32) (a2 : Int32) : Option (Int32) :=
  (rcv K h (some a0) 0).bind fun b1 =>
  (fX0_isPerson K h b1 a1).bind fun x2 =>
  if x2 = 0 then
    some (-1 : Int32)
  else
  (rcv K h (some a0) 0).bind fun b4 =>
  (fX0_isFilm K h b4 a2).bind fun x5 =>
  if x5 = 0 then
    some (-1 : Int32)
  else
  (rcv K h (some a0) 0).bind fun b7 =>
  (fX0_worthOf K h b7 a1 a2).bind fun x8 =>
  some x8
set_option maxHeartbeats 4000000 in
theorem metX0_worth {l : Launch} {A : Nat → Prop} {D : va_G} {ac : Nat → ClassId} {K : KE} {h : HS} {a0 : Nat} {a1 : Int32} {a2 : Int32} {x : Int32} (z : fX0_worth K h a0 a1 a2 = some x) : Met l yX0_worth (ws_ yX0_worth cX0_worth 3 (some .int)) (rmC 6 109 K h) (cP A D ac K h [va_rf (some a0), .int a1, .int a2]) (cQi A D ac K (h, x)) (K.2.2.1 - h.2.1) (K.2.2.2 - h.2.2) A := by
  refine c_entry (plainFor_of_name (by decide)) (Nat.le_of_ble_eq_true rfl) ?_
  intro p e s m below meth c S hr hlk hnm hG hRM hH hS ls hl
  replace hl : lv_has ls 3 [(0, va_rf (some a0)), (1, .int a1), (2, .int a2)] := hl
  replace hnm : meth.name = "worth" := hnm
  replace S : CallFix p m c cX0_worth 3 s _ lw_all RX0 := S
  obtain ⟨hx, hb, hml, hown, hts⟩ := id S
  unfold fX0_worth at z
  refine c_aload_n hx hb dX0_worth_0 rfl (lv_at hl 0 rfl) ?_
  refine lv_iload_n hx hb dX0_worth_1 rfl (lv_at hl 1 rfl) ?_
  replace z := ob z
  obtain ⟨b1, zb1, z⟩ := z
  obtain ⟨yb1, zb1⟩ := rcv_e zb1
  replace z := ob z
  obtain ⟨x2, zx2, z⟩ := z
  refine c_calli hH hS hRM (fun _ _ f1 f2 => va_runV (b := b1) (As := [.int a1]) (rest := []) S (metX0_isPerson zx2) (cwV 1 hts (lw_V q1340 q1342 qs42 q167 q1343) rfl rfl rfl (by decide +kernel) ⟨(Nat.le_of_ble_eq_true rfl), (Nat.le_of_ble_eq_true rfl)⟩) (c_preV hG hH hS (ci := 0) rfl zb1) rfl rfl hl.1 (by rw [yb1]; rfl) (lv_room (Nat.le_of_ble_eq_true rfl)) dX0_worth_2 ⟨f1, f2⟩) (fun H locs hH hS => ?_)
  refine lv_if_eq (tgt := 25) hx hb dX0_worth_5 (by decide) (fun c3 => ?_) (fun c3 => ?_)
  · replace z := it c3 z
    refine lv_iconst (v := (-1 : Int32)) hx hb dX0_worth_25 (by decide) ?_
    exact c_iret' S hr hlk rfl hH hS z dX0_worth_26
  replace z := ie c3 z
  refine c_aload_n hx hb dX0_worth_8 rfl (lv_at hl 0 rfl) ?_
  refine lv_iload_n hx hb dX0_worth_9 rfl (lv_at hl 2 rfl) ?_
  replace z := ob z
  obtain ⟨b4, zb4, z⟩ := z
  obtain ⟨yb4, zb4⟩ := rcv_e zb4
  replace z := ob z
  obtain ⟨x5, zx5, z⟩ := z
  refine c_calli hH hS hRM (fun _ _ f1 f2 => va_runV (b := b4) (As := [.int a2]) (rest := []) S (metX0_isFilm zx5) (cwV 1 hts (lw_V q1323 q1325 qs39 q167 q1326) rfl rfl rfl (by decide +kernel) ⟨(Nat.le_of_ble_eq_true rfl), (Nat.le_of_ble_eq_true rfl)⟩) (c_preV hG hH hS (ci := 0) rfl zb4) rfl rfl hl.1 (by rw [yb4]; rfl) (lv_room (Nat.le_of_ble_eq_true rfl)) dX0_worth_10 ⟨f1, f2⟩) (fun H locs hH hS => ?_)
  refine lv_if_eq (tgt := 25) hx hb dX0_worth_13 (by decide) (fun c6 => ?_) (fun c6 => ?_)
  · replace z := it c6 z
    refine lv_iconst (v := (-1 : Int32)) hx hb dX0_worth_25 (by decide) ?_
    exact c_iret' S hr hlk rfl hH hS z dX0_worth_26
  replace z := ie c6 z
  refine c_aload_n hx hb dX0_worth_16 rfl (lv_at hl 0 rfl) ?_
  refine lv_iload_n hx hb dX0_worth_17 rfl (lv_at hl 1 rfl) ?_
  refine lv_iload_n hx hb dX0_worth_18 rfl (lv_at hl 2 rfl) ?_
  replace z := ob z
  obtain ⟨b7, zb7, z⟩ := z
  obtain ⟨yb7, zb7⟩ := rcv_e zb7
  replace z := ob z
  obtain ⟨x8, zx8, z⟩ := z
  refine c_calli hH hS hRM (fun _ _ f1 f2 => va_runV (b := b7) (As := [.int a1, .int a2]) (rest := []) S (metX0_worthOf zx8) (cwV 2 hts (lw_V q1471 q1473 qs46 q167 q1474) rfl rfl rfl (by decide +kernel) ⟨(Nat.le_of_ble_eq_true rfl), (Nat.le_of_ble_eq_true rfl)⟩) (c_preV hG hH hS (ci := 0) rfl zb7) rfl rfl hl.1 (by rw [yb7]; rfl) (lv_room (Nat.le_of_ble_eq_true rfl)) dX0_worth_19 ⟨f1, f2⟩) (fun H locs hH hS => ?_)
  refine lv_goto (tgt := 26) hx hb dX0_worth_22 (by decide) ?_
  exact c_iret' S hr hlk rfl hH hS z dX0_worth_26
/-! FourOnOne.kept(II)I -/
def fX0_kept (K : KE) (h : HS) (a0 : Nat) (a1 : Int32) (a2 : Int32) : Option (Int32) :=
  (gR K h (some a0) 0 9).bind fun v1 =>
  (gI K h v1 5 2).bind fun v2 =>
  (fX0_is K h a1 (0 : Int32) (v2 - (1 : Int32))).bind fun x3 =>
  if x3 = 0 then
    some (-1 : Int32)
  else
  (fX0_is K h a2 (0 : Int32) (3 : Int32)).bind fun x5 =>
  if x5 = 0 then
    some (-1 : Int32)
  else
  (gR K h (some a0) 0 9).bind fun v7 =>
  (gR K h v7 5 6).bind fun v8 =>
  (cR K h v8 8 a1).bind fun v9 =>
  (cI K h v9 0 a2).bind fun v10 =>
  some v10
set_option maxHeartbeats 4000000 in
theorem metX0_kept {l : Launch} {A : Nat → Prop} {D : va_G} {ac : Nat → ClassId} {K : KE} {h : HS} {a0 : Nat} {a1 : Int32} {a2 : Int32} {x : Int32} (z : fX0_kept K h a0 a1 a2 = some x) : Met l yX0_kept (ws_ yX0_kept cX0_kept 3 (some .int)) (rmC 2 22 K h) (cP A D ac K h [va_rf (some a0), .int a1, .int a2]) (cQi A D ac K (h, x)) (K.2.2.1 - h.2.1) (K.2.2.2 - h.2.2) A := by
  refine c_entry (plainFor_of_name (by decide)) (Nat.le_of_ble_eq_true rfl) ?_
  intro p e s m below meth c S hr hlk hnm hG hRM hH hS ls hl
  replace hl : lv_has ls 3 [(0, va_rf (some a0)), (1, .int a1), (2, .int a2)] := hl
  replace hnm : meth.name = "kept" := hnm
  replace S : CallFix p m c cX0_kept 3 s _ lw_all RX0 := S
  obtain ⟨hx, hb, hml, hown, hts⟩ := id S
  unfold fX0_kept at z
  refine lv_iload_n hx hb dX0_kept_0 rfl (lv_at hl 1 rfl) ?_
  refine lv_iconst (v := (0 : Int32)) hx hb dX0_kept_1 (by decide) ?_
  refine c_aload_n hx hb dX0_kept_2 rfl (lv_at hl 0 rfl) ?_
  replace z := ob z
  obtain ⟨v1, zv1, z⟩ := z
  obtain ⟨fsv1, yv1, zv1⟩ := gR_e zv1
  refine c_get S hG hH (ci := 0) (k := 9) rfl in_X0 (Nat.le_of_ble_eq_true rfl) q489 (fun _ y => y) yv1 zv1 dX0_kept_3 ?_
  replace z := ob z
  obtain ⟨v2, zv2, z⟩ := z
  obtain ⟨fsv2, yv2, zv2⟩ := gI_e zv2
  refine c_getN S hG hH (ci := 5) (k := 2) rfl in_X5 (Nat.le_of_ble_eq_true rfl) q434 (fun _ y => y) yv2 zv2 dX0_kept_6 ?_
  refine lv_iconst (v := (1 : Int32)) hx hb dX0_kept_9 (by decide) ?_
  refine lv_isub hx hb dX0_kept_10 ?_
  replace z := ob z
  obtain ⟨x3, zx3, z⟩ := z
  refine c_calli hH hS hRM (fun _ _ f1 f2 => va_runS (As := [.int a1, .int (0 : Int32), .int (v2 - (1 : Int32))]) (rest := []) S (metX0_is zx3) (va_cwS 3 hts (lw_S q1296 q924 q167 q925) rfl rfl rfl (by decide +kernel) ⟨(Nat.le_of_ble_eq_true rfl), (Nat.le_of_ble_eq_true rfl)⟩) (c_pre hG hH hS) rfl rfl hl.1 rfl (lv_room (Nat.le_of_ble_eq_true rfl)) dX0_kept_11 ⟨f1, f2⟩) (fun H locs hH hS => ?_)
  refine lv_if_eq (tgt := 40) hx hb dX0_kept_14 (by decide) (fun c4 => ?_) (fun c4 => ?_)
  · replace z := it c4 z
    refine lv_iconst (v := (-1 : Int32)) hx hb dX0_kept_40 (by decide) ?_
    exact c_iret' S hr hlk rfl hH hS z dX0_kept_41
  replace z := ie c4 z
  refine lv_iload_n hx hb dX0_kept_17 rfl (lv_at hl 2 rfl) ?_
  refine lv_iconst (v := (0 : Int32)) hx hb dX0_kept_18 (by decide) ?_
  refine lv_iconst (v := (3 : Int32)) hx hb dX0_kept_19 (by decide) ?_
  replace z := ob z
  obtain ⟨x5, zx5, z⟩ := z
  refine c_calli hH hS hRM (fun _ _ f1 f2 => va_runS (As := [.int a2, .int (0 : Int32), .int (3 : Int32)]) (rest := []) S (metX0_is zx5) (va_cwS 3 hts (lw_S q1296 q924 q167 q925) rfl rfl rfl (by decide +kernel) ⟨(Nat.le_of_ble_eq_true rfl), (Nat.le_of_ble_eq_true rfl)⟩) (c_pre hG hH hS) rfl rfl hl.1 rfl (lv_room (Nat.le_of_ble_eq_true rfl)) dX0_kept_20 ⟨f1, f2⟩) (fun H locs hH hS => ?_)
  refine lv_if_eq (tgt := 40) hx hb dX0_kept_23 (by decide) (fun c6 => ?_) (fun c6 => ?_)
  · replace z := it c6 z
    refine lv_iconst (v := (-1 : Int32)) hx hb dX0_kept_40 (by decide) ?_
    exact c_iret' S hr hlk rfl hH hS z dX0_kept_41
  replace z := ie c6 z
  refine c_aload_n hx hb dX0_kept_26 rfl (lv_at hl 0 rfl) ?_
  replace z := ob z
  obtain ⟨v7, zv7, z⟩ := z
  obtain ⟨fsv7, yv7, zv7⟩ := gR_e zv7
  refine c_get S hG hH (ci := 0) (k := 9) rfl in_X0 (Nat.le_of_ble_eq_true rfl) q489 (fun _ y => y) yv7 zv7 dX0_kept_27 ?_
  replace z := ob z
  obtain ⟨v8, zv8, z⟩ := z
  obtain ⟨fsv8, yv8, zv8⟩ := gR_e zv8
  refine c_getN S hG hH (ci := 5) (k := 6) rfl in_X5 (Nat.le_of_ble_eq_true rfl) q442 (fun _ y => y) yv8 zv8 dX0_kept_30 ?_
  refine lv_iload_n hx hb dX0_kept_33 rfl (lv_at hl 1 rfl) ?_
  replace z := ob z
  obtain ⟨v9, zv9, z⟩ := z
  refine c_aald S hG hH 8 rfl rfl zv9 dX0_kept_34 ?_
  refine lv_iload_n hx hb dX0_kept_35 rfl (lv_at hl 2 rfl) ?_
  replace z := ob z
  obtain ⟨v10, zv10, z⟩ := z
  refine c_iald S hG hH zv10 dX0_kept_36 ?_
  refine lv_goto (tgt := 41) hx hb dX0_kept_37 (by decide) ?_
  exact c_iret' S hr hlk rfl hH hS z dX0_kept_41
/-! FourOnOne.isAhead(III)Z -/
def fX0_isAhead (K : KE) (h : HS) (a0 : Nat) (a1 : Int32) (a2 : Int32) (a3 : Int32) : Option (Int32) :=
  (fX0_is K h a1 a2 a3).bind fun x1 =>
  if x1 = 0 then
    some (0 : Int32)
  else
  (gR K h (some a0) 0 9).bind fun v3 =>
  (gI K h v3 5 0).bind fun v4 =>
  if (23999 : Int32) < (v4 + a1) then
    some (0 : Int32)
  else
  some (1 : Int32)
set_option maxHeartbeats 4000000 in
theorem metX0_isAhead {l : Launch} {A : Nat → Prop} {D : va_G} {ac : Nat → ClassId} {K : KE} {h : HS} {a0 : Nat} {a1 : Int32} {a2 : Int32} {a3 : Int32} {x : Int32} (z : fX0_isAhead K h a0 a1 a2 a3 = some x) : Met l yX0_isAhead (ws_ yX0_isAhead cX0_isAhead 4 (some .boolean)) (rmC 2 22 K h) (cP A D ac K h [va_rf (some a0), .int a1, .int a2, .int a3]) (cQi A D ac K (h, x)) (K.2.2.1 - h.2.1) (K.2.2.2 - h.2.2) A := by
  refine c_entry (plainFor_of_name (by decide)) (Nat.le_of_ble_eq_true rfl) ?_
  intro p e s m below meth c S hr hlk hnm hG hRM hH hS ls hl
  replace hl : lv_has ls 4 [(0, va_rf (some a0)), (1, .int a1), (2, .int a2), (3, .int a3)] := hl
  replace hnm : meth.name = "isAhead" := hnm
  replace S : CallFix p m c cX0_isAhead 4 s _ lw_all RX0 := S
  obtain ⟨hx, hb, hml, hown, hts⟩ := id S
  unfold fX0_isAhead at z
  refine lv_iload_n hx hb dX0_isAhead_0 rfl (lv_at hl 1 rfl) ?_
  refine lv_iload_n hx hb dX0_isAhead_1 rfl (lv_at hl 2 rfl) ?_
  refine lv_iload_n hx hb dX0_isAhead_2 rfl (lv_at hl 3 rfl) ?_
  replace z := ob z
  obtain ⟨x1, zx1, z⟩ := z
  refine c_calli hH hS hRM (fun _ _ f1 f2 => va_runS (As := [.int a1, .int a2, .int a3]) (rest := []) S (metX0_is zx1) (va_cwS 3 hts (lw_S q1296 q924 q167 q925) rfl rfl rfl (by decide +kernel) ⟨(Nat.le_of_ble_eq_true rfl), (Nat.le_of_ble_eq_true rfl)⟩) (c_pre hG hH hS) rfl rfl hl.1 rfl (lv_room (Nat.le_of_ble_eq_true rfl)) dX0_isAhead_3 ⟨f1, f2⟩) (fun H locs hH hS => ?_)
  refine lv_if_eq (tgt := 28) hx hb dX0_isAhead_6 (by decide) (fun c2 => ?_) (fun c2 => ?_)
  · replace z := it c2 z
    refine lv_iconst (v := (0 : Int32)) hx hb dX0_isAhead_28 (by decide) ?_
    exact c_iret' S hr hlk rfl hH hS z dX0_isAhead_29
  replace z := ie c2 z
  refine c_aload_n hx hb dX0_isAhead_9 rfl (lv_at hl 0 rfl) ?_
  replace z := ob z
  obtain ⟨v3, zv3, z⟩ := z
  obtain ⟨fsv3, yv3, zv3⟩ := gR_e zv3
  refine c_get S hG hH (ci := 0) (k := 9) rfl in_X0 (Nat.le_of_ble_eq_true rfl) q489 (fun _ y => y) yv3 zv3 dX0_isAhead_10 ?_
  replace z := ob z
  obtain ⟨v4, zv4, z⟩ := z
  obtain ⟨fsv4, yv4, zv4⟩ := gI_e zv4
  refine c_getN S hG hH (ci := 5) (k := 0) rfl in_X5 (Nat.le_of_ble_eq_true rfl) q430 (fun _ y => y) yv4 zv4 dX0_isAhead_13 ?_
  refine lv_iload_n hx hb dX0_isAhead_16 rfl (lv_at hl 1 rfl) ?_
  refine lv_iadd hx hb dX0_isAhead_17 ?_
  refine lv_sipush (v := (23999 : Int32)) hx hb dX0_isAhead_18 (by decide) ?_
  refine lv_icmp_gt (tgt := 28) hx hb dX0_isAhead_21 (by decide) (fun c5 => ?_) (fun c5 => ?_)
  · replace z := it c5 z
    refine lv_iconst (v := (0 : Int32)) hx hb dX0_isAhead_28 (by decide) ?_
    exact c_iret' S hr hlk rfl hH hS z dX0_isAhead_29
  replace z := ie c5 z
  refine lv_iconst (v := (1 : Int32)) hx hb dX0_isAhead_24 (by decide) ?_
  refine lv_goto (tgt := 29) hx hb dX0_isAhead_25 (by decide) ?_
  exact c_iret' S hr hlk rfl hH hS z dX0_isAhead_29
/-! FourOnOne$State.copy(LFourOnOne$State;)LFourOnOne$State; -/
def fX5_copy_63 (K : KE) (a0 : Nat) (k26 : HS → Option Nat → Int32 → Option (HS × Option Nat)) : Nat → HS → Option Nat → Int32 → Int32 → Option (HS × Option Nat)
  | 0, _, _, _, _ => none
  | n + 1, h, a1, a2, a3 =>
    if (8 : Int32) ≤ a3 then
      k26 h a1 (a2 + (1 : Int32))
    else
    (gR K h (some a0) 5 4).bind fun v2 =>
    (cR K h v2 8 a2).bind fun v3 =>
    (gR K h a1 5 4).bind fun v4 =>
    (cR K h v4 8 a2).bind fun v5 =>
    (cI K h v5 0 a3).bind fun v6 =>
    (sC h v3 0 a3 v6).bind fun h7 =>
    fX5_copy_63 K a0 k26 n h7 a1 a2 (a3 + (1 : Int32))
def fX5_copy_33 (K : KE) (a0 : Nat) (k26 : HS → Option Nat → Int32 → Option (HS × Option Nat)) : Nat → HS → Option Nat → Int32 → Int32 → Option (HS × Option Nat)
  | 0, _, _, _, _ => none
  | n + 1, h, a1, a2, a3 =>
    if (6 : Int32) ≤ a3 then
      fX5_copy_63 K a0 k26 FU h a1 a2 (0 : Int32)
    else
    (gR K h (some a0) 5 3).bind fun v2 =>
    (cR K h v2 8 a2).bind fun v3 =>
    (gR K h a1 5 3).bind fun v4 =>
    (cR K h v4 8 a2).bind fun v5 =>
    (cI K h v5 0 a3).bind fun v6 =>
    (sC h v3 0 a3 v6).bind fun h7 =>
    fX5_copy_33 K a0 k26 n h7 a1 a2 (a3 + (1 : Int32))
def fX5_copy_148 (K : KE) (a0 : Nat) (k138 : HS → Option Nat → Int32 → Option (HS × Option Nat)) : Nat → HS → Option Nat → Int32 → Int32 → Option (HS × Option Nat)
  | 0, _, _, _, _ => none
  | n + 1, h, a1, a2, a3 =>
    if (4 : Int32) ≤ a3 then
      k138 h a1 (a2 + (1 : Int32))
    else
    (gR K h (some a0) 5 6).bind fun v2 =>
    (cR K h v2 8 a2).bind fun v3 =>
    (gR K h a1 5 6).bind fun v4 =>
    (cR K h v4 8 a2).bind fun v5 =>
    (cI K h v5 0 a3).bind fun v6 =>
    (sC h v3 0 a3 v6).bind fun h7 =>
    fX5_copy_148 K a0 k138 n h7 a1 a2 (a3 + (1 : Int32))
def fX5_copy_138 (K : KE) (a0 : Nat) : Nat → HS → Option Nat → Int32 → Option (HS × Option Nat)
  | 0, _, _, _ => none
  | n + 1, h, a1, a2 =>
    (gI K h (some a0) 5 2).bind fun v1 =>
    if v1 ≤ a2 then
      some (h, (some a0))
    else
    fX5_copy_148 K a0 (fun h' b1 b2 => fX5_copy_138 K a0 n h' b1 b2) FU h a1 a2 (0 : Int32)
def fX5_copy_99 (K : KE) (a0 : Nat) : Nat → HS → Option Nat → Int32 → Option (HS × Option Nat)
  | 0, _, _, _ => none
  | n + 1, h, a1, a2 =>
    if (5 : Int32) ≤ a2 then
      fX5_copy_138 K a0 FU h a1 (0 : Int32)
    else
    (gR K h (some a0) 5 5).bind fun v2 =>
    (gR K h a1 5 5).bind fun v3 =>
    (cI K h v3 0 a2).bind fun v4 =>
    (sC h v2 0 a2 v4).bind fun h5 =>
    (gR K h5 (some a0) 5 7).bind fun v6 =>
    (sCL h5 v6 1 a2 (0 : Int64)).bind fun h7 =>
    (gR K h7 (some a0) 5 8).bind fun v8 =>
    (sC h7 v8 0 a2 (0 : Int32)).bind fun h9 =>
    fX5_copy_99 K a0 n h9 a1 (a2 + (1 : Int32))
def fX5_copy_26 (K : KE) (a0 : Nat) : Nat → HS → Option Nat → Int32 → Option (HS × Option Nat)
  | 0, _, _, _ => none
  | n + 1, h, a1, a2 =>
    if (5 : Int32) < a2 then
      fX5_copy_99 K a0 FU h a1 (0 : Int32)
    else
    fX5_copy_33 K a0 (fun h' b1 b2 => fX5_copy_26 K a0 n h' b1 b2) FU h a1 a2 (0 : Int32)
def fX5_copy (K : KE) (h : HS) (a0 : Nat) (a1 : Option Nat) : Option (HS × Option Nat) :=
  (gI K h a1 5 0).bind fun v1 =>
  (pV h (some a0) 5 0 (.int v1)).bind fun h2 =>
  (gI K h2 a1 5 1).bind fun v3 =>
  (pV h2 (some a0) 5 1 (.int v3)).bind fun h4 =>
  (gI K h4 a1 5 2).bind fun v5 =>
  (pV h4 (some a0) 5 2 (.int v5)).bind fun h6 =>
  fX5_copy_26 K a0 FU h6 a1 (0 : Int32)
set_option maxHeartbeats 4000000 in
theorem wX5_copy_63 {p : Program} {l : Launch} {e : Env} {s : State} {m : MethodId} {args : Array Value} {below : List Frame} {meth : Method} {c : Code} {A : Nat → Prop} {D : va_G} {ac : Nat → ClassId} {K : KE} {h0 : HS} {a0 : Nat} (S : CallFix p m c cX5_copy 4 s args lw_all RX5) (hr : meth.sig.returnType = some (.object "FourOnOne$State")) (hlk : meth.locks = false) (hnm : meth.name = "copy") (hG : GK A D ac K s) (hRM : RM K s (rmC 1 0 K h0)) {x : HS × Option Nat} {k26 : HS → Option Nat → Int32 → Option (HS × Option Nat)} (hk26 : ∀ h a1 a2, k26 h a1 a2 = some x → cGo p l e (rmC 1 0 K h0) s m args below meth c A D ac K (MQ below (cQq A D ac K x) args s (K.2.2.1 - h0.2.1) (K.2.2.2 - h0.2.2) A) 4 26 [(0, va_rf (some a0)), (1, va_rf a1), (2, .int a2)] [] h) : ∀ (n : Nat) (h : HS) (a1 : Option Nat) (a2 : Int32) (a3 : Int32), fX5_copy_63 K a0 k26 n h a1 a2 a3 = some x → cGo p l e (rmC 1 0 K h0) s m args below meth c A D ac K (MQ below (cQq A D ac K x) args s (K.2.2.1 - h0.2.1) (K.2.2.2 - h0.2.2) A) 4 63 [(0, va_rf (some a0)), (1, va_rf a1), (2, .int a2), (3, .int a3)] [] h := by
  obtain ⟨hx, hb, hml, hown, hts⟩ := id S
  intro n
  induction n with
  | zero => intro h a1 a2 a3 z; cases z
  | succ n ih =>
    intro h a1 a2 a3 z H locs hH hS ls hl
    rw [fX5_copy_63] at z
    refine lv_iload_n hx hb dX5_copy_63 rfl (lv_at hl 3 rfl) ?_
    refine lv_bipush (v := (8 : Int32)) hx hb dX5_copy_64 (by decide) ?_
    refine lv_icmp_ge (tgt := 91) hx hb dX5_copy_66 (by decide) (fun c1 => ?_) (fun c1 => ?_)
    · replace z := it c1 z
      refine lv_iinc (v := (a2 + (1 : Int32))) (lv' := [(2, .int (a2 + (1 : Int32))), (0, va_rf (some a0)), (1, va_rf a1), (3, .int a3)]) hx hb dX5_copy_91 hl (k := 2) rfl rfl (by decide) (by simp [List.filter, ct_r]) (fun ls hl => ?_)
      refine lv_goto (tgt := 26) hx hb dX5_copy_94 (by decide) ?_
      exact hk26 h a1 (a2 + (1 : Int32)) z _ _ hH hS _ (lv_sub hl [1, 2, 0] rfl)
    replace z := ie c1 z
    refine c_aload_n hx hb dX5_copy_69 rfl (lv_at hl 0 rfl) ?_
    replace z := ob z
    obtain ⟨v2, zv2, z⟩ := z
    obtain ⟨fsv2, yv2, zv2⟩ := gR_e zv2
    refine c_get S hG hH (ci := 5) (k := 4) rfl in_X5 (Nat.le_of_ble_eq_true rfl) q437 (fun _ y => y) yv2 zv2 dX5_copy_70 ?_
    refine lv_iload_n hx hb dX5_copy_73 rfl (lv_at hl 2 rfl) ?_
    replace z := ob z
    obtain ⟨v3, zv3, z⟩ := z
    refine c_aald S hG hH 8 rfl rfl zv3 dX5_copy_74 ?_
    refine lv_iload_n hx hb dX5_copy_75 rfl (lv_at hl 3 rfl) ?_
    refine c_aload_n hx hb dX5_copy_76 rfl (lv_at hl 1 rfl) ?_
    replace z := ob z
    obtain ⟨v4, zv4, z⟩ := z
    obtain ⟨fsv4, yv4, zv4⟩ := gR_e zv4
    refine c_get S hG hH (ci := 5) (k := 4) rfl in_X5 (Nat.le_of_ble_eq_true rfl) q437 (fun _ y => y) yv4 zv4 dX5_copy_77 ?_
    refine lv_iload_n hx hb dX5_copy_80 rfl (lv_at hl 2 rfl) ?_
    replace z := ob z
    obtain ⟨v5, zv5, z⟩ := z
    refine c_aald S hG hH 8 rfl rfl zv5 dX5_copy_81 ?_
    refine lv_iload_n hx hb dX5_copy_82 rfl (lv_at hl 3 rfl) ?_
    replace z := ob z
    obtain ⟨v6, zv6, z⟩ := z
    refine c_iald S hG hH zv6 dX5_copy_83 ?_
    replace z := ob z
    obtain ⟨h7, zh7, z⟩ := z
    refine c_iast S hG hH hS zh7 dX5_copy_84 (fun H locs hH hS => ?_)
    refine lv_iinc (v := (a3 + (1 : Int32))) (lv' := [(3, .int (a3 + (1 : Int32))), (0, va_rf (some a0)), (1, va_rf a1), (2, .int a2)]) hx hb dX5_copy_85 hl (k := 3) rfl rfl (by decide) rfl (fun ls hl => ?_)
    refine lv_goto (tgt := 63) hx hb dX5_copy_88 (by decide) ?_
    exact ih h7 a1 a2 (a3 + (1 : Int32)) z _ _ hH hS _ (lv_sub hl [1, 2, 3, 0] rfl)
set_option maxHeartbeats 4000000 in
theorem wX5_copy_33 {p : Program} {l : Launch} {e : Env} {s : State} {m : MethodId} {args : Array Value} {below : List Frame} {meth : Method} {c : Code} {A : Nat → Prop} {D : va_G} {ac : Nat → ClassId} {K : KE} {h0 : HS} {a0 : Nat} (S : CallFix p m c cX5_copy 4 s args lw_all RX5) (hr : meth.sig.returnType = some (.object "FourOnOne$State")) (hlk : meth.locks = false) (hnm : meth.name = "copy") (hG : GK A D ac K s) (hRM : RM K s (rmC 1 0 K h0)) {x : HS × Option Nat} {k26 : HS → Option Nat → Int32 → Option (HS × Option Nat)} (hk26 : ∀ h a1 a2, k26 h a1 a2 = some x → cGo p l e (rmC 1 0 K h0) s m args below meth c A D ac K (MQ below (cQq A D ac K x) args s (K.2.2.1 - h0.2.1) (K.2.2.2 - h0.2.2) A) 4 26 [(0, va_rf (some a0)), (1, va_rf a1), (2, .int a2)] [] h) : ∀ (n : Nat) (h : HS) (a1 : Option Nat) (a2 : Int32) (a3 : Int32), fX5_copy_33 K a0 k26 n h a1 a2 a3 = some x → cGo p l e (rmC 1 0 K h0) s m args below meth c A D ac K (MQ below (cQq A D ac K x) args s (K.2.2.1 - h0.2.1) (K.2.2.2 - h0.2.2) A) 4 33 [(0, va_rf (some a0)), (1, va_rf a1), (2, .int a2), (3, .int a3)] [] h := by
  obtain ⟨hx, hb, hml, hown, hts⟩ := id S
  intro n
  induction n with
  | zero => intro h a1 a2 a3 z; cases z
  | succ n ih =>
    intro h a1 a2 a3 z H locs hH hS ls hl
    rw [fX5_copy_33] at z
    refine lv_iload_n hx hb dX5_copy_33 rfl (lv_at hl 3 rfl) ?_
    refine lv_bipush (v := (6 : Int32)) hx hb dX5_copy_34 (by decide) ?_
    refine lv_icmp_ge (tgt := 61) hx hb dX5_copy_36 (by decide) (fun c1 => ?_) (fun c1 => ?_)
    · replace z := it c1 z
      refine lv_iconst (v := (0 : Int32)) hx hb dX5_copy_61 (by decide) ?_
      refine lv_istore_n (lv' := [(3, .int (0 : Int32)), (0, va_rf (some a0)), (1, va_rf a1), (2, .int a2)]) hx hb dX5_copy_62 rfl hl (by decide) rfl (fun ls hl => ?_)
      exact wX5_copy_63 S hr hlk hnm hG hRM hk26 FU h a1 a2 (0 : Int32) z _ _ hH hS _ (lv_sub hl [1, 2, 3, 0] rfl)
    replace z := ie c1 z
    refine c_aload_n hx hb dX5_copy_39 rfl (lv_at hl 0 rfl) ?_
    replace z := ob z
    obtain ⟨v2, zv2, z⟩ := z
    obtain ⟨fsv2, yv2, zv2⟩ := gR_e zv2
    refine c_get S hG hH (ci := 5) (k := 3) rfl in_X5 (Nat.le_of_ble_eq_true rfl) q435 (fun _ y => y) yv2 zv2 dX5_copy_40 ?_
    refine lv_iload_n hx hb dX5_copy_43 rfl (lv_at hl 2 rfl) ?_
    replace z := ob z
    obtain ⟨v3, zv3, z⟩ := z
    refine c_aald S hG hH 8 rfl rfl zv3 dX5_copy_44 ?_
    refine lv_iload_n hx hb dX5_copy_45 rfl (lv_at hl 3 rfl) ?_
    refine c_aload_n hx hb dX5_copy_46 rfl (lv_at hl 1 rfl) ?_
    replace z := ob z
    obtain ⟨v4, zv4, z⟩ := z
    obtain ⟨fsv4, yv4, zv4⟩ := gR_e zv4
    refine c_get S hG hH (ci := 5) (k := 3) rfl in_X5 (Nat.le_of_ble_eq_true rfl) q435 (fun _ y => y) yv4 zv4 dX5_copy_47 ?_
    refine lv_iload_n hx hb dX5_copy_50 rfl (lv_at hl 2 rfl) ?_
    replace z := ob z
    obtain ⟨v5, zv5, z⟩ := z
    refine c_aald S hG hH 8 rfl rfl zv5 dX5_copy_51 ?_
    refine lv_iload_n hx hb dX5_copy_52 rfl (lv_at hl 3 rfl) ?_
    replace z := ob z
    obtain ⟨v6, zv6, z⟩ := z
    refine c_iald S hG hH zv6 dX5_copy_53 ?_
    replace z := ob z
    obtain ⟨h7, zh7, z⟩ := z
    refine c_iast S hG hH hS zh7 dX5_copy_54 (fun H locs hH hS => ?_)
    refine lv_iinc (v := (a3 + (1 : Int32))) (lv' := [(3, .int (a3 + (1 : Int32))), (0, va_rf (some a0)), (1, va_rf a1), (2, .int a2)]) hx hb dX5_copy_55 hl (k := 3) rfl rfl (by decide) rfl (fun ls hl => ?_)
    refine lv_goto (tgt := 33) hx hb dX5_copy_58 (by decide) ?_
    exact ih h7 a1 a2 (a3 + (1 : Int32)) z _ _ hH hS _ (lv_sub hl [1, 2, 3, 0] rfl)
set_option maxHeartbeats 4000000 in
theorem wX5_copy_148 {p : Program} {l : Launch} {e : Env} {s : State} {m : MethodId} {args : Array Value} {below : List Frame} {meth : Method} {c : Code} {A : Nat → Prop} {D : va_G} {ac : Nat → ClassId} {K : KE} {h0 : HS} {a0 : Nat} (S : CallFix p m c cX5_copy 4 s args lw_all RX5) (hr : meth.sig.returnType = some (.object "FourOnOne$State")) (hlk : meth.locks = false) (hnm : meth.name = "copy") (hG : GK A D ac K s) (hRM : RM K s (rmC 1 0 K h0)) {x : HS × Option Nat} {k138 : HS → Option Nat → Int32 → Option (HS × Option Nat)} (hk138 : ∀ h a1 a2, k138 h a1 a2 = some x → cGo p l e (rmC 1 0 K h0) s m args below meth c A D ac K (MQ below (cQq A D ac K x) args s (K.2.2.1 - h0.2.1) (K.2.2.2 - h0.2.2) A) 4 138 [(0, va_rf (some a0)), (1, va_rf a1), (2, .int a2)] [] h) : ∀ (n : Nat) (h : HS) (a1 : Option Nat) (a2 : Int32) (a3 : Int32), fX5_copy_148 K a0 k138 n h a1 a2 a3 = some x → cGo p l e (rmC 1 0 K h0) s m args below meth c A D ac K (MQ below (cQq A D ac K x) args s (K.2.2.1 - h0.2.1) (K.2.2.2 - h0.2.2) A) 4 148 [(0, va_rf (some a0)), (1, va_rf a1), (2, .int a2), (3, .int a3)] [] h := by
  obtain ⟨hx, hb, hml, hown, hts⟩ := id S
  intro n
  induction n with
  | zero => intro h a1 a2 a3 z; cases z
  | succ n ih =>
    intro h a1 a2 a3 z H locs hH hS ls hl
    rw [fX5_copy_148] at z
    refine lv_iload_n hx hb dX5_copy_148 rfl (lv_at hl 3 rfl) ?_
    refine lv_iconst (v := (4 : Int32)) hx hb dX5_copy_149 (by decide) ?_
    refine lv_icmp_ge (tgt := 175) hx hb dX5_copy_150 (by decide) (fun c1 => ?_) (fun c1 => ?_)
    · replace z := it c1 z
      refine lv_iinc (v := (a2 + (1 : Int32))) (lv' := [(2, .int (a2 + (1 : Int32))), (0, va_rf (some a0)), (1, va_rf a1), (3, .int a3)]) hx hb dX5_copy_175 hl (k := 2) rfl rfl (by decide) (by simp [List.filter, ct_r]) (fun ls hl => ?_)
      refine lv_goto (tgt := 138) hx hb dX5_copy_178 (by decide) ?_
      exact hk138 h a1 (a2 + (1 : Int32)) z _ _ hH hS _ (lv_sub hl [1, 2, 0] rfl)
    replace z := ie c1 z
    refine c_aload_n hx hb dX5_copy_153 rfl (lv_at hl 0 rfl) ?_
    replace z := ob z
    obtain ⟨v2, zv2, z⟩ := z
    obtain ⟨fsv2, yv2, zv2⟩ := gR_e zv2
    refine c_get S hG hH (ci := 5) (k := 6) rfl in_X5 (Nat.le_of_ble_eq_true rfl) q441 (fun _ y => y) yv2 zv2 dX5_copy_154 ?_
    refine lv_iload_n hx hb dX5_copy_157 rfl (lv_at hl 2 rfl) ?_
    replace z := ob z
    obtain ⟨v3, zv3, z⟩ := z
    refine c_aald S hG hH 8 rfl rfl zv3 dX5_copy_158 ?_
    refine lv_iload_n hx hb dX5_copy_159 rfl (lv_at hl 3 rfl) ?_
    refine c_aload_n hx hb dX5_copy_160 rfl (lv_at hl 1 rfl) ?_
    replace z := ob z
    obtain ⟨v4, zv4, z⟩ := z
    obtain ⟨fsv4, yv4, zv4⟩ := gR_e zv4
    refine c_get S hG hH (ci := 5) (k := 6) rfl in_X5 (Nat.le_of_ble_eq_true rfl) q441 (fun _ y => y) yv4 zv4 dX5_copy_161 ?_
    refine lv_iload_n hx hb dX5_copy_164 rfl (lv_at hl 2 rfl) ?_
    replace z := ob z
    obtain ⟨v5, zv5, z⟩ := z
    refine c_aald S hG hH 8 rfl rfl zv5 dX5_copy_165 ?_
    refine lv_iload_n hx hb dX5_copy_166 rfl (lv_at hl 3 rfl) ?_
    replace z := ob z
    obtain ⟨v6, zv6, z⟩ := z
    refine c_iald S hG hH zv6 dX5_copy_167 ?_
    replace z := ob z
    obtain ⟨h7, zh7, z⟩ := z
    refine c_iast S hG hH hS zh7 dX5_copy_168 (fun H locs hH hS => ?_)
    refine lv_iinc (v := (a3 + (1 : Int32))) (lv' := [(3, .int (a3 + (1 : Int32))), (0, va_rf (some a0)), (1, va_rf a1), (2, .int a2)]) hx hb dX5_copy_169 hl (k := 3) rfl rfl (by decide) rfl (fun ls hl => ?_)
    refine lv_goto (tgt := 148) hx hb dX5_copy_172 (by decide) ?_
    exact ih h7 a1 a2 (a3 + (1 : Int32)) z _ _ hH hS _ (lv_sub hl [1, 2, 3, 0] rfl)
set_option maxHeartbeats 4000000 in
theorem wX5_copy_138 {p : Program} {l : Launch} {e : Env} {s : State} {m : MethodId} {args : Array Value} {below : List Frame} {meth : Method} {c : Code} {A : Nat → Prop} {D : va_G} {ac : Nat → ClassId} {K : KE} {h0 : HS} {a0 : Nat} (S : CallFix p m c cX5_copy 4 s args lw_all RX5) (hr : meth.sig.returnType = some (.object "FourOnOne$State")) (hlk : meth.locks = false) (hnm : meth.name = "copy") (hG : GK A D ac K s) (hRM : RM K s (rmC 1 0 K h0)) {x : HS × Option Nat} : ∀ (n : Nat) (h : HS) (a1 : Option Nat) (a2 : Int32), fX5_copy_138 K a0 n h a1 a2 = some x → cGo p l e (rmC 1 0 K h0) s m args below meth c A D ac K (MQ below (cQq A D ac K x) args s (K.2.2.1 - h0.2.1) (K.2.2.2 - h0.2.2) A) 4 138 [(0, va_rf (some a0)), (1, va_rf a1), (2, .int a2)] [] h := by
  obtain ⟨hx, hb, hml, hown, hts⟩ := id S
  intro n
  induction n with
  | zero => intro h a1 a2 z; cases z
  | succ n ih =>
    intro h a1 a2 z H locs hH hS ls hl
    rw [fX5_copy_138] at z
    refine lv_iload_n hx hb dX5_copy_138 rfl (lv_at hl 2 rfl) ?_
    refine c_aload_n hx hb dX5_copy_139 rfl (lv_at hl 0 rfl) ?_
    replace z := ob z
    obtain ⟨v1, zv1, z⟩ := z
    obtain ⟨fsv1, yv1, zv1⟩ := gI_e zv1
    refine c_get S hG hH (ci := 5) (k := 2) rfl in_X5 (Nat.le_of_ble_eq_true rfl) q433 (fun _ y => y) yv1 zv1 dX5_copy_140 ?_
    refine lv_icmp_ge (tgt := 181) hx hb dX5_copy_143 (by decide) (fun c2 => ?_) (fun c2 => ?_)
    · replace z := it c2 z
      refine c_aload_n hx hb dX5_copy_181 rfl (lv_at hl 0 rfl) ?_
      exact c_aret S hr (Or.inl ⟨_, rfl⟩) hlk hH hS z dX5_copy_182
    replace z := ie c2 z
    refine lv_iconst (v := (0 : Int32)) hx hb dX5_copy_146 (by decide) ?_
    refine lv_istore_n (lv' := [(3, .int (0 : Int32)), (0, va_rf (some a0)), (1, va_rf a1), (2, .int a2)]) hx hb dX5_copy_147 rfl hl (by decide) rfl (fun ls hl => ?_)
    exact wX5_copy_148 S hr hlk hnm hG hRM ih FU h a1 a2 (0 : Int32) z _ _ hH hS _ (lv_sub hl [1, 2, 3, 0] rfl)
set_option maxHeartbeats 4000000 in
theorem wX5_copy_99 {p : Program} {l : Launch} {e : Env} {s : State} {m : MethodId} {args : Array Value} {below : List Frame} {meth : Method} {c : Code} {A : Nat → Prop} {D : va_G} {ac : Nat → ClassId} {K : KE} {h0 : HS} {a0 : Nat} (S : CallFix p m c cX5_copy 4 s args lw_all RX5) (hr : meth.sig.returnType = some (.object "FourOnOne$State")) (hlk : meth.locks = false) (hnm : meth.name = "copy") (hG : GK A D ac K s) (hRM : RM K s (rmC 1 0 K h0)) {x : HS × Option Nat} : ∀ (n : Nat) (h : HS) (a1 : Option Nat) (a2 : Int32), fX5_copy_99 K a0 n h a1 a2 = some x → cGo p l e (rmC 1 0 K h0) s m args below meth c A D ac K (MQ below (cQq A D ac K x) args s (K.2.2.1 - h0.2.1) (K.2.2.2 - h0.2.2) A) 4 99 [(0, va_rf (some a0)), (1, va_rf a1), (2, .int a2)] [] h := by
  obtain ⟨hx, hb, hml, hown, hts⟩ := id S
  intro n
  induction n with
  | zero => intro h a1 a2 z; cases z
  | succ n ih =>
    intro h a1 a2 z H locs hH hS ls hl
    rw [fX5_copy_99] at z
    refine lv_iload_n hx hb dX5_copy_99 rfl (lv_at hl 2 rfl) ?_
    refine lv_iconst (v := (5 : Int32)) hx hb dX5_copy_100 (by decide) ?_
    refine lv_icmp_ge (tgt := 136) hx hb dX5_copy_101 (by decide) (fun c1 => ?_) (fun c1 => ?_)
    · replace z := it c1 z
      refine lv_iconst (v := (0 : Int32)) hx hb dX5_copy_136 (by decide) ?_
      refine lv_istore_n (i := 2) (lv' := [(2, .int (0 : Int32)), (0, va_rf (some a0)), (1, va_rf a1)]) hx hb dX5_copy_137 rfl hl (by decide) (by simp [List.filter, ct_r, ct_i, ct_l]) (fun ls hl => ?_)
      exact wX5_copy_138 S hr hlk hnm hG hRM FU h a1 (0 : Int32) z _ _ hH hS _ (lv_sub hl [1, 2, 0] rfl)
    replace z := ie c1 z
    refine c_aload_n hx hb dX5_copy_104 rfl (lv_at hl 0 rfl) ?_
    replace z := ob z
    obtain ⟨v2, zv2, z⟩ := z
    obtain ⟨fsv2, yv2, zv2⟩ := gR_e zv2
    refine c_get S hG hH (ci := 5) (k := 5) rfl in_X5 (Nat.le_of_ble_eq_true rfl) q439 (fun _ y => y) yv2 zv2 dX5_copy_105 ?_
    refine lv_iload_n hx hb dX5_copy_108 rfl (lv_at hl 2 rfl) ?_
    refine c_aload_n hx hb dX5_copy_109 rfl (lv_at hl 1 rfl) ?_
    replace z := ob z
    obtain ⟨v3, zv3, z⟩ := z
    obtain ⟨fsv3, yv3, zv3⟩ := gR_e zv3
    refine c_get S hG hH (ci := 5) (k := 5) rfl in_X5 (Nat.le_of_ble_eq_true rfl) q439 (fun _ y => y) yv3 zv3 dX5_copy_110 ?_
    refine lv_iload_n hx hb dX5_copy_113 rfl (lv_at hl 2 rfl) ?_
    replace z := ob z
    obtain ⟨v4, zv4, z⟩ := z
    refine c_iald S hG hH zv4 dX5_copy_114 ?_
    replace z := ob z
    obtain ⟨h5, zh5, z⟩ := z
    refine c_iast S hG hH hS zh5 dX5_copy_115 (fun H locs hH hS => ?_)
    refine c_aload_n hx hb dX5_copy_116 rfl (lv_at hl 0 rfl) ?_
    replace z := ob z
    obtain ⟨v6, zv6, z⟩ := z
    obtain ⟨fsv6, yv6, zv6⟩ := gR_e zv6
    refine c_get S hG hH (ci := 5) (k := 7) rfl in_X5 (Nat.le_of_ble_eq_true rfl) q443 (fun _ y => y) yv6 zv6 dX5_copy_117 ?_
    refine lv_iload_n hx hb dX5_copy_120 rfl (lv_at hl 2 rfl) ?_
    refine lv_lconst (v := (0 : Int64)) hx hb dX5_copy_121 (by decide) ?_
    replace z := ob z
    obtain ⟨h7, zh7, z⟩ := z
    refine c_last S hG hH hS zh7 dX5_copy_122 (fun H locs hH hS => ?_)
    refine c_aload_n hx hb dX5_copy_123 rfl (lv_at hl 0 rfl) ?_
    replace z := ob z
    obtain ⟨v8, zv8, z⟩ := z
    obtain ⟨fsv8, yv8, zv8⟩ := gR_e zv8
    refine c_get S hG hH (ci := 5) (k := 8) rfl in_X5 (Nat.le_of_ble_eq_true rfl) q445 (fun _ y => y) yv8 zv8 dX5_copy_124 ?_
    refine lv_iload_n hx hb dX5_copy_127 rfl (lv_at hl 2 rfl) ?_
    refine lv_iconst (v := (0 : Int32)) hx hb dX5_copy_128 (by decide) ?_
    replace z := ob z
    obtain ⟨h9, zh9, z⟩ := z
    refine c_iast S hG hH hS zh9 dX5_copy_129 (fun H locs hH hS => ?_)
    refine lv_iinc (v := (a2 + (1 : Int32))) (lv' := [(2, .int (a2 + (1 : Int32))), (0, va_rf (some a0)), (1, va_rf a1)]) hx hb dX5_copy_130 hl (k := 2) rfl rfl (by decide) (by simp [List.filter, ct_r]) (fun ls hl => ?_)
    refine lv_goto (tgt := 99) hx hb dX5_copy_133 (by decide) ?_
    exact ih h9 a1 (a2 + (1 : Int32)) z _ _ hH hS _ (lv_sub hl [1, 2, 0] rfl)
set_option maxHeartbeats 4000000 in
theorem wX5_copy_26 {p : Program} {l : Launch} {e : Env} {s : State} {m : MethodId} {args : Array Value} {below : List Frame} {meth : Method} {c : Code} {A : Nat → Prop} {D : va_G} {ac : Nat → ClassId} {K : KE} {h0 : HS} {a0 : Nat} (S : CallFix p m c cX5_copy 4 s args lw_all RX5) (hr : meth.sig.returnType = some (.object "FourOnOne$State")) (hlk : meth.locks = false) (hnm : meth.name = "copy") (hG : GK A D ac K s) (hRM : RM K s (rmC 1 0 K h0)) {x : HS × Option Nat} : ∀ (n : Nat) (h : HS) (a1 : Option Nat) (a2 : Int32), fX5_copy_26 K a0 n h a1 a2 = some x → cGo p l e (rmC 1 0 K h0) s m args below meth c A D ac K (MQ below (cQq A D ac K x) args s (K.2.2.1 - h0.2.1) (K.2.2.2 - h0.2.2) A) 4 26 [(0, va_rf (some a0)), (1, va_rf a1), (2, .int a2)] [] h := by
  obtain ⟨hx, hb, hml, hown, hts⟩ := id S
  intro n
  induction n with
  | zero => intro h a1 a2 z; cases z
  | succ n ih =>
    intro h a1 a2 z H locs hH hS ls hl
    rw [fX5_copy_26] at z
    refine lv_iload_n hx hb dX5_copy_26 rfl (lv_at hl 2 rfl) ?_
    refine lv_iconst (v := (5 : Int32)) hx hb dX5_copy_27 (by decide) ?_
    refine lv_icmp_gt (tgt := 97) hx hb dX5_copy_28 (by decide) (fun c1 => ?_) (fun c1 => ?_)
    · replace z := it c1 z
      refine lv_iconst (v := (0 : Int32)) hx hb dX5_copy_97 (by decide) ?_
      refine lv_istore_n (i := 2) (lv' := [(2, .int (0 : Int32)), (0, va_rf (some a0)), (1, va_rf a1)]) hx hb dX5_copy_98 rfl hl (by decide) (by simp [List.filter, ct_r, ct_i, ct_l]) (fun ls hl => ?_)
      exact wX5_copy_99 S hr hlk hnm hG hRM FU h a1 (0 : Int32) z _ _ hH hS _ (lv_sub hl [1, 2, 0] rfl)
    replace z := ie c1 z
    refine lv_iconst (v := (0 : Int32)) hx hb dX5_copy_31 (by decide) ?_
    refine lv_istore_n (lv' := [(3, .int (0 : Int32)), (0, va_rf (some a0)), (1, va_rf a1), (2, .int a2)]) hx hb dX5_copy_32 rfl hl (by decide) rfl (fun ls hl => ?_)
    exact wX5_copy_33 S hr hlk hnm hG hRM ih FU h a1 a2 (0 : Int32) z _ _ hH hS _ (lv_sub hl [1, 2, 3, 0] rfl)
set_option maxHeartbeats 4000000 in
theorem metX5_copy {l : Launch} {A : Nat → Prop} {D : va_G} {ac : Nat → ClassId} {K : KE} {h : HS} {a0 : Nat} {a1 : Option Nat} {x : HS × Option Nat} (z : fX5_copy K h a0 a1 = some x) : Met l yX5_copy (ws_ yX5_copy cX5_copy 4 (some (.object "FourOnOne$State"))) (rmC 1 0 K h) (cP A D ac K h [va_rf (some a0), va_rf a1]) (cQq A D ac K x) (K.2.2.1 - h.2.1) (K.2.2.2 - h.2.2) A := by
  refine c_entry (plainFor_of_name (by decide)) (by simp [lg_sl, ct_r, ct_i, ct_l]) ?_
  intro p e s m below meth c S hr hlk hnm hG hRM hH hS ls hl
  replace hl : lv_has ls 4 [(0, va_rf (some a0)), (1, va_rf a1)] := (by simpa [lv_args, ct_r, ct_i, ct_l] using hl)
  replace hnm : meth.name = "copy" := hnm
  replace S : CallFix p m c cX5_copy 4 s _ lw_all RX5 := S
  obtain ⟨hx, hb, hml, hown, hts⟩ := id S
  unfold fX5_copy at z
  refine c_aload_n hx hb dX5_copy_0 rfl (lv_at hl 0 rfl) ?_
  refine c_aload_n hx hb dX5_copy_1 rfl (lv_at hl 1 rfl) ?_
  replace z := ob z
  obtain ⟨v1, zv1, z⟩ := z
  obtain ⟨fsv1, yv1, zv1⟩ := gI_e zv1
  refine c_get S hG hH (ci := 5) (k := 0) rfl in_X5 (Nat.le_of_ble_eq_true rfl) q429 (fun _ y => y) yv1 zv1 dX5_copy_2 ?_
  replace z := ob z
  obtain ⟨h2, zh2, z⟩ := z
  refine c_put S hG hH hS (ci := 5) (k := 0) rfl in_X5 tyX5 tyX5_ok nmX5 (Nat.le_of_ble_eq_true rfl) q429 (fun _ y => y) rfl (ty := .int) rfl rfl rfl zh2 dX5_copy_5 (fun H locs hH hS => ?_)
  refine c_aload_n hx hb dX5_copy_8 rfl (lv_at hl 0 rfl) ?_
  refine c_aload_n hx hb dX5_copy_9 rfl (lv_at hl 1 rfl) ?_
  replace z := ob z
  obtain ⟨v3, zv3, z⟩ := z
  obtain ⟨fsv3, yv3, zv3⟩ := gI_e zv3
  refine c_get S hG hH (ci := 5) (k := 1) rfl in_X5 (Nat.le_of_ble_eq_true rfl) q431 (fun _ y => y) yv3 zv3 dX5_copy_10 ?_
  replace z := ob z
  obtain ⟨h4, zh4, z⟩ := z
  refine c_put S hG hH hS (ci := 5) (k := 1) rfl in_X5 tyX5 tyX5_ok nmX5 (Nat.le_of_ble_eq_true rfl) q431 (fun _ y => y) rfl (ty := .int) rfl rfl rfl zh4 dX5_copy_13 (fun H locs hH hS => ?_)
  refine c_aload_n hx hb dX5_copy_16 rfl (lv_at hl 0 rfl) ?_
  refine c_aload_n hx hb dX5_copy_17 rfl (lv_at hl 1 rfl) ?_
  replace z := ob z
  obtain ⟨v5, zv5, z⟩ := z
  obtain ⟨fsv5, yv5, zv5⟩ := gI_e zv5
  refine c_get S hG hH (ci := 5) (k := 2) rfl in_X5 (Nat.le_of_ble_eq_true rfl) q433 (fun _ y => y) yv5 zv5 dX5_copy_18 ?_
  replace z := ob z
  obtain ⟨h6, zh6, z⟩ := z
  refine c_put S hG hH hS (ci := 5) (k := 2) rfl in_X5 tyX5 tyX5_ok nmX5 (Nat.le_of_ble_eq_true rfl) q433 (fun _ y => y) rfl (ty := .int) rfl rfl rfl zh6 dX5_copy_21 (fun H locs hH hS => ?_)
  refine lv_iconst (v := (0 : Int32)) hx hb dX5_copy_24 (by decide) ?_
  refine lv_istore_n (i := 2) (lv' := [(2, .int (0 : Int32)), (0, va_rf (some a0)), (1, va_rf a1)]) hx hb dX5_copy_25 rfl hl (by decide) (by simp [List.filter, ct_r, ct_i, ct_l]) (fun ls hl => ?_)
  exact wX5_copy_26 S hr hlk hnm hG hRM FU h6 a1 (0 : Int32) z _ _ hH hS _ (lv_sub hl [1, 2, 0] rfl)
/-! FourOnOne.isFree(II)Z -/
def fX0_isFree (K : KE) (h : HS) (a0 : Nat) (a1 : Int32) (a2 : Int32) : Option (Int32) :=
  (rcv K h (some a0) 0).bind fun b1 =>
  (fX0_personOf K h b1 a1).bind fun x2 =>
  (gI K h x2 8 1).bind fun v3 =>
  (rcv K h (some a0) 0).bind fun b4 =>
  (fX0_personOf K h b4 a1).bind fun x5 =>
  (gI K h x5 8 2).bind fun v6 =>
  (fX0_is K h a2 v3 v6).bind fun x7 =>
  (zr x7).bind fun g8 =>
  some x7
set_option maxHeartbeats 4000000 in
theorem metX0_isFree {l : Launch} {A : Nat → Prop} {D : va_G} {ac : Nat → ClassId} {K : KE} {h : HS} {a0 : Nat} {a1 : Int32} {a2 : Int32} {x : Int32} (z : fX0_isFree K h a0 a1 a2 = some x) : Met l yX0_isFree (ws_ yX0_isFree cX0_isFree 3 (some .boolean)) (rmC 5 85 K h) (cP A D ac K h [va_rf (some a0), .int a1, .int a2]) (cQi A D ac K (h, x)) (K.2.2.1 - h.2.1) (K.2.2.2 - h.2.2) A := by
  refine c_entry (plainFor_of_name (by decide)) (Nat.le_of_ble_eq_true rfl) ?_
  intro p e s m below meth c S hr hlk hnm hG hRM hH hS ls hl
  replace hl : lv_has ls 3 [(0, va_rf (some a0)), (1, .int a1), (2, .int a2)] := hl
  replace hnm : meth.name = "isFree" := hnm
  replace S : CallFix p m c cX0_isFree 3 s _ lw_all RX0 := S
  obtain ⟨hx, hb, hml, hown, hts⟩ := id S
  unfold fX0_isFree at z
  refine lv_iload_n hx hb dX0_isFree_0 rfl (lv_at hl 2 rfl) ?_
  refine c_aload_n hx hb dX0_isFree_1 rfl (lv_at hl 0 rfl) ?_
  refine lv_iload_n hx hb dX0_isFree_2 rfl (lv_at hl 1 rfl) ?_
  replace z := ob z
  obtain ⟨b1, zb1, z⟩ := z
  obtain ⟨yb1, zb1⟩ := rcv_e zb1
  replace z := ob z
  obtain ⟨x2, zx2, z⟩ := z
  refine c_callq hH hS hRM (fun _ _ f1 f2 => va_runV (b := b1) (As := [.int a1]) (rest := [.int a2]) S (metX0_personOf zx2) (cwV 1 hts (lw_V q1344 q1346 qs43 q167 q1347) rfl rfl rfl (by decide +kernel) ⟨(Nat.le_of_ble_eq_true rfl), (Nat.le_of_ble_eq_true rfl)⟩) (c_preV hG hH hS (ci := 0) rfl zb1) rfl rfl hl.1 (by rw [yb1]; rfl) (lv_room (Nat.le_of_ble_eq_true rfl)) dX0_isFree_3 ⟨f1, f2⟩) (fun H locs hH hS => ?_)
  replace z := ob z
  obtain ⟨v3, zv3, z⟩ := z
  obtain ⟨fsv3, yv3, zv3⟩ := gI_e zv3
  refine c_getN S hG hH (ci := 8) (k := 1) rfl in_X9 (Nat.le_of_ble_eq_true rfl) q958 (fun _ y => y) yv3 zv3 dX0_isFree_6 ?_
  refine c_aload_n hx hb dX0_isFree_9 rfl (lv_at hl 0 rfl) ?_
  refine lv_iload_n hx hb dX0_isFree_10 rfl (lv_at hl 1 rfl) ?_
  replace z := ob z
  obtain ⟨b4, zb4, z⟩ := z
  obtain ⟨yb4, zb4⟩ := rcv_e zb4
  replace z := ob z
  obtain ⟨x5, zx5, z⟩ := z
  refine c_callq hH hS hRM (fun _ _ f1 f2 => va_runV (b := b4) (As := [.int a1]) (rest := [.int v3, .int a2]) S (metX0_personOf zx5) (cwV 1 hts (lw_V q1344 q1346 qs43 q167 q1347) rfl rfl rfl (by decide +kernel) ⟨(Nat.le_of_ble_eq_true rfl), (Nat.le_of_ble_eq_true rfl)⟩) (c_preV hG hH hS (ci := 0) rfl zb4) rfl rfl hl.1 (by rw [yb4]; rfl) (lv_room (Nat.le_of_ble_eq_true rfl)) dX0_isFree_11 ⟨f1, f2⟩) (fun H locs hH hS => ?_)
  replace z := ob z
  obtain ⟨v6, zv6, z⟩ := z
  obtain ⟨fsv6, yv6, zv6⟩ := gI_e zv6
  refine c_getN S hG hH (ci := 8) (k := 2) rfl in_X9 (Nat.le_of_ble_eq_true rfl) q960 (fun _ y => y) yv6 zv6 dX0_isFree_14 ?_
  replace z := ob z
  obtain ⟨x7, zx7, z⟩ := z
  refine c_calli hH hS hRM (fun _ _ f1 f2 => va_runS (As := [.int a2, .int v3, .int v6]) (rest := []) S (metX0_is zx7) (va_cwS 3 hts (lw_S q1296 q924 q167 q925) rfl rfl rfl (by decide +kernel) ⟨(Nat.le_of_ble_eq_true rfl), (Nat.le_of_ble_eq_true rfl)⟩) (c_pre hG hH hS) rfl rfl hl.1 rfl (lv_room (Nat.le_of_ble_eq_true rfl)) dX0_isFree_17 ⟨f1, f2⟩) (fun H locs hH hS => ?_)
  replace z := ob z
  obtain ⟨g8, zg8, z⟩ := z
  obtain ⟨yg8, -⟩ := zr_e zg8
  exact c_iret' S hr hlk yg8 hH hS z dX0_isFree_20
/-! FourOnOne$State.cut(J)I -/
def fX5_cut (K : KE) (h : HS) (a0 : Nat) (a1 : Int64) : Option (Int32) :=
  (fJ12_min_2 K h (999 : Int64) a1).bind fun x1 =>
  (fJ12_max_2 K h (0 : Int64) x1).bind fun x2 =>
  some x2.toInt32
set_option maxHeartbeats 4000000 in
theorem metX5_cut {l : Launch} {A : Nat → Prop} {D : va_G} {ac : Nat → ClassId} {K : KE} {h : HS} {a0 : Nat} {a1 : Int64} {x : Int32} (z : fX5_cut K h a0 a1 = some x) : Met l yX5_cut (ws_ yX5_cut cX5_cut 3 (some .int)) (rmC 2 23 K h) (cP A D ac K h [va_rf (some a0), .long a1]) (cQi A D ac K (h, x)) (K.2.2.1 - h.2.1) (K.2.2.2 - h.2.2) A := by
  refine c_entry (plainFor_of_name (by decide)) (Nat.le_of_ble_eq_true rfl) ?_
  intro p e s m below meth c S hr hlk hnm hG hRM hH hS ls hl
  replace hl : lv_has ls 3 [(0, va_rf (some a0)), (1, .long a1)] := hl
  replace hnm : meth.name = "cut" := hnm
  replace S : CallFix p m c cX5_cut 3 s _ lw_all RX5 := S
  obtain ⟨hx, hb, hml, hown, hts⟩ := id S
  unfold fX5_cut at z
  refine lv_lconst (v := (0 : Int64)) hx hb dX5_cut_0 (by decide) ?_
  refine lv_ldc2 hx hb hown (hts _ q1523) dX5_cut_1 ?_
  refine lv_lload_n hx hb dX5_cut_4 rfl (lv_at hl 1 rfl) ?_
  replace z := ob z
  obtain ⟨x1, zx1, z⟩ := z
  refine c_calll hH hS hRM (fun _ _ f1 f2 => va_runS (As := [.long (999 : Int64), .long a1]) (rest := [.long (0 : Int64)]) S (metJ12_min_2 zx1) (va_cwS 2 hts (lw_S q1524 q1418 q187 q1419) rfl rfl rfl (by decide +kernel) ⟨(Nat.le_of_ble_eq_true rfl), (Nat.le_of_ble_eq_true rfl)⟩) (c_pre hG hH hS) rfl rfl hl.1 rfl (lv_room (Nat.le_of_ble_eq_true rfl)) dX5_cut_5 ⟨f1, f2⟩) (fun H locs hH hS => ?_)
  replace z := ob z
  obtain ⟨x2, zx2, z⟩ := z
  refine c_calll hH hS hRM (fun _ _ f1 f2 => va_runS (As := [.long (0 : Int64), .long x1]) (rest := []) S (metJ12_max_2 zx2) (va_cwS 2 hts (lw_S q1518 q1421 q187 q1422) rfl rfl rfl (by decide +kernel) ⟨(Nat.le_of_ble_eq_true rfl), (Nat.le_of_ble_eq_true rfl)⟩) (c_pre hG hH hS) rfl rfl hl.1 rfl (lv_room (Nat.le_of_ble_eq_true rfl)) dX5_cut_8 ⟨f1, f2⟩) (fun H locs hH hS => ?_)
  refine lv_l2i (v := x2.toInt32) hx hb dX5_cut_11 rfl ?_
  exact c_iret' S hr hlk rfl hH hS z dX5_cut_12
/-! FourOnOne$State.tells(II)V -/
def fX5_tells_66 (K : KE) (a0 : Nat) (h : HS) (a1 : Int32) (a2 : Int32) : Option (HS) :=
  (gR K h (some a0) 5 6).bind fun v1 =>
  (gI K h (some a0) 5 2).bind fun v2 =>
  (cR K h v1 8 v2).bind fun v3 =>
  (gI K h (some a0) 5 0).bind fun v4 =>
  (sC h v3 0 (0 : Int32) (v4 / (24 : Int32))).bind fun h5 =>
  (gR K h5 (some a0) 5 6).bind fun v6 =>
  (gI K h5 (some a0) 5 2).bind fun v7 =>
  (cR K h5 v6 8 v7).bind fun v8 =>
  (gI K h5 (some a0) 5 0).bind fun v9 =>
  (sC h5 v8 0 (1 : Int32) (v9 - v9 / (24 : Int32) * (24 : Int32))).bind fun h10 =>
  (gR K h10 (some a0) 5 6).bind fun v11 =>
  (gI K h10 (some a0) 5 2).bind fun v12 =>
  (cR K h10 v11 8 v12).bind fun v13 =>
  (sC h10 v13 0 (2 : Int32) a1).bind fun h14 =>
  (gR K h14 (some a0) 5 6).bind fun v15 =>
  (gI K h14 (some a0) 5 2).bind fun v16 =>
  (cR K h14 v15 8 v16).bind fun v17 =>
  (sC h14 v17 0 (3 : Int32) a2).bind fun h18 =>
  (gI K h18 (some a0) 5 2).bind fun v19 =>
  (pV h18 (some a0) 5 2 (.int (v19 + (1 : Int32)))).bind fun h20 =>
  some h20
def fX5_tells_19 (K : KE) (a0 : Nat) : Nat → HS → Int32 → Int32 → Option Nat → Int32 → Option (HS)
  | 0, _, _, _, _, _ => none
  | n + 1, h, a1, a2, a3, a4 =>
    if (40 : Int32) ≤ a4 then
      (gR K h (some a0) 5 6).bind fun v2 =>
      (sCR K h v2 8 (39 : Int32) a3).bind fun h3 =>
      (gI K h3 (some a0) 5 2).bind fun v4 =>
      (pV h3 (some a0) 5 2 (.int (v4 - (1 : Int32)))).bind fun h5 =>
      fX5_tells_66 K a0 h5 a1 a2
    else
    (gR K h (some a0) 5 6).bind fun v6 =>
    (gR K h (some a0) 5 6).bind fun v7 =>
    (cR K h v7 8 a4).bind fun v8 =>
    (sCR K h v6 8 (a4 - (1 : Int32)) v8).bind fun h9 =>
    fX5_tells_19 K a0 n h9 a1 a2 a3 (a4 + (1 : Int32))
def fX5_tells (K : KE) (h : HS) (a0 : Nat) (a1 : Int32) (a2 : Int32) : Option (HS) :=
  (gI K h (some a0) 5 2).bind fun v1 =>
  if v1 = (40 : Int32) then
    (gR K h (some a0) 5 6).bind fun v3 =>
    (cR K h v3 8 (0 : Int32)).bind fun v4 =>
    fX5_tells_19 K a0 FU h a1 a2 v4 (1 : Int32)
  else
  fX5_tells_66 K a0 h a1 a2
set_option maxHeartbeats 4000000 in
theorem wX5_tells_66 {p : Program} {l : Launch} {e : Env} {s : State} {m : MethodId} {args : Array Value} {below : List Frame} {meth : Method} {c : Code} {A : Nat → Prop} {D : va_G} {ac : Nat → ClassId} {K : KE} {h0 : HS} {a0 : Nat} (S : CallFix p m c cX5_tells 5 s args lw_all RX5) (hr : meth.sig.returnType = none) (hlk : meth.locks = false) (hnm : meth.name = "tells") (hG : GK A D ac K s) (hRM : RM K s (rmC 1 0 K h0)) {x : HS} : ∀ (h : HS) (a1 : Int32) (a2 : Int32), fX5_tells_66 K a0 h a1 a2 = some x → cGo p l e (rmC 1 0 K h0) s m args below meth c A D ac K (MQ below (cQv A D ac K x) args s (K.2.2.1 - h0.2.1) (K.2.2.2 - h0.2.2) A) 5 66 [(0, va_rf (some a0)), (1, .int a1), (2, .int a2)] [] h := by
  obtain ⟨hx, hb, hml, hown, hts⟩ := id S
  intro h a1 a2 z H locs hH hS ls hl
  unfold fX5_tells_66 at z
  refine c_aload_n hx hb dX5_tells_66 rfl (lv_at hl 0 rfl) ?_
  replace z := ob z
  obtain ⟨v1, zv1, z⟩ := z
  obtain ⟨fsv1, yv1, zv1⟩ := gR_e zv1
  refine c_get S hG hH (ci := 5) (k := 6) rfl in_X5 (Nat.le_of_ble_eq_true rfl) q441 (fun _ y => y) yv1 zv1 dX5_tells_67 ?_
  refine c_aload_n hx hb dX5_tells_70 rfl (lv_at hl 0 rfl) ?_
  replace z := ob z
  obtain ⟨v2, zv2, z⟩ := z
  obtain ⟨fsv2, yv2, zv2⟩ := gI_e zv2
  refine c_get S hG hH (ci := 5) (k := 2) rfl in_X5 (Nat.le_of_ble_eq_true rfl) q433 (fun _ y => y) yv2 zv2 dX5_tells_71 ?_
  replace z := ob z
  obtain ⟨v3, zv3, z⟩ := z
  refine c_aald S hG hH 8 rfl rfl zv3 dX5_tells_74 ?_
  refine lv_iconst (v := (0 : Int32)) hx hb dX5_tells_75 (by decide) ?_
  refine c_aload_n hx hb dX5_tells_76 rfl (lv_at hl 0 rfl) ?_
  replace z := ob z
  obtain ⟨v4, zv4, z⟩ := z
  obtain ⟨fsv4, yv4, zv4⟩ := gI_e zv4
  refine c_get S hG hH (ci := 5) (k := 0) rfl in_X5 (Nat.le_of_ble_eq_true rfl) q429 (fun _ y => y) yv4 zv4 dX5_tells_77 ?_
  refine lv_bipush (v := (24 : Int32)) hx hb dX5_tells_80 (by decide) ?_
  refine lv_idiv hx hb dX5_tells_82 (by decide) ?_
  replace z := ob z
  obtain ⟨h5, zh5, z⟩ := z
  refine c_iast S hG hH hS zh5 dX5_tells_83 (fun H locs hH hS => ?_)
  refine c_aload_n hx hb dX5_tells_84 rfl (lv_at hl 0 rfl) ?_
  replace z := ob z
  obtain ⟨v6, zv6, z⟩ := z
  obtain ⟨fsv6, yv6, zv6⟩ := gR_e zv6
  refine c_get S hG hH (ci := 5) (k := 6) rfl in_X5 (Nat.le_of_ble_eq_true rfl) q441 (fun _ y => y) yv6 zv6 dX5_tells_85 ?_
  refine c_aload_n hx hb dX5_tells_88 rfl (lv_at hl 0 rfl) ?_
  replace z := ob z
  obtain ⟨v7, zv7, z⟩ := z
  obtain ⟨fsv7, yv7, zv7⟩ := gI_e zv7
  refine c_get S hG hH (ci := 5) (k := 2) rfl in_X5 (Nat.le_of_ble_eq_true rfl) q433 (fun _ y => y) yv7 zv7 dX5_tells_89 ?_
  replace z := ob z
  obtain ⟨v8, zv8, z⟩ := z
  refine c_aald S hG hH 8 rfl rfl zv8 dX5_tells_92 ?_
  refine lv_iconst (v := (1 : Int32)) hx hb dX5_tells_93 (by decide) ?_
  refine c_aload_n hx hb dX5_tells_94 rfl (lv_at hl 0 rfl) ?_
  replace z := ob z
  obtain ⟨v9, zv9, z⟩ := z
  obtain ⟨fsv9, yv9, zv9⟩ := gI_e zv9
  refine c_get S hG hH (ci := 5) (k := 0) rfl in_X5 (Nat.le_of_ble_eq_true rfl) q429 (fun _ y => y) yv9 zv9 dX5_tells_95 ?_
  refine lv_bipush (v := (24 : Int32)) hx hb dX5_tells_98 (by decide) ?_
  refine lv_irem hx hb dX5_tells_100 (by decide) ?_
  replace z := ob z
  obtain ⟨h10, zh10, z⟩ := z
  refine c_iast S hG hH hS zh10 dX5_tells_101 (fun H locs hH hS => ?_)
  refine c_aload_n hx hb dX5_tells_102 rfl (lv_at hl 0 rfl) ?_
  replace z := ob z
  obtain ⟨v11, zv11, z⟩ := z
  obtain ⟨fsv11, yv11, zv11⟩ := gR_e zv11
  refine c_get S hG hH (ci := 5) (k := 6) rfl in_X5 (Nat.le_of_ble_eq_true rfl) q441 (fun _ y => y) yv11 zv11 dX5_tells_103 ?_
  refine c_aload_n hx hb dX5_tells_106 rfl (lv_at hl 0 rfl) ?_
  replace z := ob z
  obtain ⟨v12, zv12, z⟩ := z
  obtain ⟨fsv12, yv12, zv12⟩ := gI_e zv12
  refine c_get S hG hH (ci := 5) (k := 2) rfl in_X5 (Nat.le_of_ble_eq_true rfl) q433 (fun _ y => y) yv12 zv12 dX5_tells_107 ?_
  replace z := ob z
  obtain ⟨v13, zv13, z⟩ := z
  refine c_aald S hG hH 8 rfl rfl zv13 dX5_tells_110 ?_
  refine lv_iconst (v := (2 : Int32)) hx hb dX5_tells_111 (by decide) ?_
  refine lv_iload_n hx hb dX5_tells_112 rfl (lv_at hl 1 rfl) ?_
  replace z := ob z
  obtain ⟨h14, zh14, z⟩ := z
  refine c_iast S hG hH hS zh14 dX5_tells_113 (fun H locs hH hS => ?_)
  refine c_aload_n hx hb dX5_tells_114 rfl (lv_at hl 0 rfl) ?_
  replace z := ob z
  obtain ⟨v15, zv15, z⟩ := z
  obtain ⟨fsv15, yv15, zv15⟩ := gR_e zv15
  refine c_get S hG hH (ci := 5) (k := 6) rfl in_X5 (Nat.le_of_ble_eq_true rfl) q441 (fun _ y => y) yv15 zv15 dX5_tells_115 ?_
  refine c_aload_n hx hb dX5_tells_118 rfl (lv_at hl 0 rfl) ?_
  replace z := ob z
  obtain ⟨v16, zv16, z⟩ := z
  obtain ⟨fsv16, yv16, zv16⟩ := gI_e zv16
  refine c_get S hG hH (ci := 5) (k := 2) rfl in_X5 (Nat.le_of_ble_eq_true rfl) q433 (fun _ y => y) yv16 zv16 dX5_tells_119 ?_
  replace z := ob z
  obtain ⟨v17, zv17, z⟩ := z
  refine c_aald S hG hH 8 rfl rfl zv17 dX5_tells_122 ?_
  refine lv_iconst (v := (3 : Int32)) hx hb dX5_tells_123 (by decide) ?_
  refine lv_iload_n hx hb dX5_tells_124 rfl (lv_at hl 2 rfl) ?_
  replace z := ob z
  obtain ⟨h18, zh18, z⟩ := z
  refine c_iast S hG hH hS zh18 dX5_tells_125 (fun H locs hH hS => ?_)
  refine c_aload_n hx hb dX5_tells_126 rfl (lv_at hl 0 rfl) ?_
  refine lv_dup hx hb dX5_tells_127 rfl ?_
  replace z := ob z
  obtain ⟨v19, zv19, z⟩ := z
  obtain ⟨fsv19, yv19, zv19⟩ := gI_e zv19
  refine c_get S hG hH (ci := 5) (k := 2) rfl in_X5 (Nat.le_of_ble_eq_true rfl) q433 (fun _ y => y) yv19 zv19 dX5_tells_128 ?_
  refine lv_iconst (v := (1 : Int32)) hx hb dX5_tells_131 (by decide) ?_
  refine lv_iadd hx hb dX5_tells_132 ?_
  replace z := ob z
  obtain ⟨h20, zh20, z⟩ := z
  refine c_put S hG hH hS (ci := 5) (k := 2) rfl in_X5 tyX5 tyX5_ok nmX5 (Nat.le_of_ble_eq_true rfl) q433 (fun _ y => y) rfl (ty := .int) rfl rfl rfl zh20 dX5_tells_133 (fun H locs hH hS => ?_)
  exact c_vret S hr hlk hH hS z dX5_tells_136
set_option maxHeartbeats 4000000 in
theorem wX5_tells_19 {p : Program} {l : Launch} {e : Env} {s : State} {m : MethodId} {args : Array Value} {below : List Frame} {meth : Method} {c : Code} {A : Nat → Prop} {D : va_G} {ac : Nat → ClassId} {K : KE} {h0 : HS} {a0 : Nat} (S : CallFix p m c cX5_tells 5 s args lw_all RX5) (hr : meth.sig.returnType = none) (hlk : meth.locks = false) (hnm : meth.name = "tells") (hG : GK A D ac K s) (hRM : RM K s (rmC 1 0 K h0)) {x : HS} : ∀ (n : Nat) (h : HS) (a1 : Int32) (a2 : Int32) (a3 : Option Nat) (a4 : Int32), fX5_tells_19 K a0 n h a1 a2 a3 a4 = some x → cGo p l e (rmC 1 0 K h0) s m args below meth c A D ac K (MQ below (cQv A D ac K x) args s (K.2.2.1 - h0.2.1) (K.2.2.2 - h0.2.2) A) 5 19 [(0, va_rf (some a0)), (1, .int a1), (2, .int a2), (3, va_rf a3), (4, .int a4)] [] h := by
  obtain ⟨hx, hb, hml, hown, hts⟩ := id S
  intro n
  induction n with
  | zero => intro h a1 a2 a3 a4 z; cases z
  | succ n ih =>
    intro h a1 a2 a3 a4 z H locs hH hS ls hl
    rw [fX5_tells_19] at z
    refine lv_iload hx hb dX5_tells_19 (lv_at hl 4 rfl) ?_
    refine lv_bipush (v := (40 : Int32)) hx hb dX5_tells_21 (by decide) ?_
    refine lv_icmp_ge (tgt := 48) hx hb dX5_tells_23 (by decide) (fun c1 => ?_) (fun c1 => ?_)
    · replace z := it c1 z
      refine c_aload_n hx hb dX5_tells_48 rfl (lv_at hl 0 rfl) ?_
      replace z := ob z
      obtain ⟨v2, zv2, z⟩ := z
      obtain ⟨fsv2, yv2, zv2⟩ := gR_e zv2
      refine c_get S hG hH (ci := 5) (k := 6) rfl in_X5 (Nat.le_of_ble_eq_true rfl) q441 (fun _ y => y) yv2 zv2 dX5_tells_49 ?_
      refine lv_bipush (v := (39 : Int32)) hx hb dX5_tells_52 (by decide) ?_
      refine c_aload_n hx hb dX5_tells_54 rfl (lv_at hl 3 rfl) ?_
      replace z := ob z
      obtain ⟨h3, zh3, z⟩ := z
      refine c_aast S hG hH hS 8 zh3 dX5_tells_55 (fun H locs hH hS => ?_)
      refine c_aload_n hx hb dX5_tells_56 rfl (lv_at hl 0 rfl) ?_
      refine lv_dup hx hb dX5_tells_57 rfl ?_
      replace z := ob z
      obtain ⟨v4, zv4, z⟩ := z
      obtain ⟨fsv4, yv4, zv4⟩ := gI_e zv4
      refine c_get S hG hH (ci := 5) (k := 2) rfl in_X5 (Nat.le_of_ble_eq_true rfl) q433 (fun _ y => y) yv4 zv4 dX5_tells_58 ?_
      refine lv_iconst (v := (1 : Int32)) hx hb dX5_tells_61 (by decide) ?_
      refine lv_isub hx hb dX5_tells_62 ?_
      replace z := ob z
      obtain ⟨h5, zh5, z⟩ := z
      refine c_put S hG hH hS (ci := 5) (k := 2) rfl in_X5 tyX5 tyX5_ok nmX5 (Nat.le_of_ble_eq_true rfl) q433 (fun _ y => y) rfl (ty := .int) rfl rfl rfl zh5 dX5_tells_63 (fun H locs hH hS => ?_)
      exact wX5_tells_66 S hr hlk hnm hG hRM h5 a1 a2 z _ _ hH hS _ (lv_sub hl [0, 1, 2] rfl)
    replace z := ie c1 z
    refine c_aload_n hx hb dX5_tells_26 rfl (lv_at hl 0 rfl) ?_
    replace z := ob z
    obtain ⟨v6, zv6, z⟩ := z
    obtain ⟨fsv6, yv6, zv6⟩ := gR_e zv6
    refine c_get S hG hH (ci := 5) (k := 6) rfl in_X5 (Nat.le_of_ble_eq_true rfl) q441 (fun _ y => y) yv6 zv6 dX5_tells_27 ?_
    refine lv_iload hx hb dX5_tells_30 (lv_at hl 4 rfl) ?_
    refine lv_iconst (v := (1 : Int32)) hx hb dX5_tells_32 (by decide) ?_
    refine lv_isub hx hb dX5_tells_33 ?_
    refine c_aload_n hx hb dX5_tells_34 rfl (lv_at hl 0 rfl) ?_
    replace z := ob z
    obtain ⟨v7, zv7, z⟩ := z
    obtain ⟨fsv7, yv7, zv7⟩ := gR_e zv7
    refine c_get S hG hH (ci := 5) (k := 6) rfl in_X5 (Nat.le_of_ble_eq_true rfl) q441 (fun _ y => y) yv7 zv7 dX5_tells_35 ?_
    refine lv_iload hx hb dX5_tells_38 (lv_at hl 4 rfl) ?_
    replace z := ob z
    obtain ⟨v8, zv8, z⟩ := z
    refine c_aald S hG hH 8 rfl rfl zv8 dX5_tells_40 ?_
    replace z := ob z
    obtain ⟨h9, zh9, z⟩ := z
    refine c_aast S hG hH hS 8 zh9 dX5_tells_41 (fun H locs hH hS => ?_)
    refine lv_iinc (v := (a4 + (1 : Int32))) (lv' := [(4, .int (a4 + (1 : Int32))), (0, va_rf (some a0)), (1, .int a1), (2, .int a2), (3, va_rf a3)]) hx hb dX5_tells_42 hl (k := 4) rfl rfl (by decide) (by simp [List.filter, ct_r]) (fun ls hl => ?_)
    refine lv_goto (tgt := 19) hx hb dX5_tells_45 (by decide) ?_
    exact ih h9 a1 a2 a3 (a4 + (1 : Int32)) z _ _ hH hS _ (lv_sub hl [1, 2, 3, 4, 0] rfl)
set_option maxHeartbeats 4000000 in
theorem metX5_tells {l : Launch} {A : Nat → Prop} {D : va_G} {ac : Nat → ClassId} {K : KE} {h : HS} {a0 : Nat} {a1 : Int32} {a2 : Int32} {x : HS} (z : fX5_tells K h a0 a1 a2 = some x) : Met l yX5_tells (ws_ yX5_tells cX5_tells 5 (none)) (rmC 1 0 K h) (cP A D ac K h [va_rf (some a0), .int a1, .int a2]) (cQv A D ac K x) (K.2.2.1 - h.2.1) (K.2.2.2 - h.2.2) A := by
  refine c_entry (plainFor_of_name (by decide)) (Nat.le_of_ble_eq_true rfl) ?_
  intro p e s m below meth c S hr hlk hnm hG hRM hH hS ls hl
  replace hl : lv_has ls 5 [(0, va_rf (some a0)), (1, .int a1), (2, .int a2)] := hl
  replace hnm : meth.name = "tells" := hnm
  replace S : CallFix p m c cX5_tells 5 s _ lw_all RX5 := S
  obtain ⟨hx, hb, hml, hown, hts⟩ := id S
  unfold fX5_tells at z
  refine c_aload_n hx hb dX5_tells_0 rfl (lv_at hl 0 rfl) ?_
  replace z := ob z
  obtain ⟨v1, zv1, z⟩ := z
  obtain ⟨fsv1, yv1, zv1⟩ := gI_e zv1
  refine c_get S hG hH (ci := 5) (k := 2) rfl in_X5 (Nat.le_of_ble_eq_true rfl) q433 (fun _ y => y) yv1 zv1 dX5_tells_1 ?_
  refine lv_bipush (v := (40 : Int32)) hx hb dX5_tells_4 (by decide) ?_
  refine lv_icmp_ne (tgt := 66) hx hb dX5_tells_6 (by decide) (fun c2 => ?_) (fun c2 => ?_)
  · replace z := ie c2 z
    exact wX5_tells_66 S hr hlk hnm hG hRM h a1 a2 z _ _ hH hS _ (lv_sub hl [0, 1, 2] rfl)
  replace z := it c2 z
  refine c_aload_n hx hb dX5_tells_9 rfl (lv_at hl 0 rfl) ?_
  replace z := ob z
  obtain ⟨v3, zv3, z⟩ := z
  obtain ⟨fsv3, yv3, zv3⟩ := gR_e zv3
  refine c_get S hG hH (ci := 5) (k := 6) rfl in_X5 (Nat.le_of_ble_eq_true rfl) q441 (fun _ y => y) yv3 zv3 dX5_tells_10 ?_
  refine lv_iconst (v := (0 : Int32)) hx hb dX5_tells_13 (by decide) ?_
  replace z := ob z
  obtain ⟨v4, zv4, z⟩ := z
  refine c_aald S hG hH 8 rfl rfl zv4 dX5_tells_14 ?_
  refine c_astore_n (lv' := [(3, va_rf v4), (0, va_rf (some a0)), (1, .int a1), (2, .int a2)]) hx hb dX5_tells_15 rfl hl (by decide) rfl (fun ls hl => ?_)
  refine lv_iconst (v := (1 : Int32)) hx hb dX5_tells_16 (by decide) ?_
  refine lv_istore (lv' := [(4, .int (1 : Int32)), (3, va_rf v4), (0, va_rf (some a0)), (1, .int a1), (2, .int a2)]) hx hb dX5_tells_17 hl (by decide) (by simp [List.filter, ct_r, ct_i, ct_l]) (fun ls hl => ?_)
  exact wX5_tells_19 S hr hlk hnm hG hRM FU h a1 a2 v4 (1 : Int32) z _ _ hH hS _ (lv_sub hl [2, 3, 4, 1, 0] rfl)

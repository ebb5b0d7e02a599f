set_option maxRecDepth 100000
/-! java/lang/String.coder()B -/
def fJ6_coder (K : KE) (h : HS) (a0 : Nat) : Option (Int32) :=
  if (1 : Int32) = 0 then
    some (1 : Int32)
  else
  (gI K h (some a0) 20 1).bind fun v2 =>
  (br v2).bind fun g3 =>
  some v2
set_option maxHeartbeats 4000000 in
theorem metJ6_coder {l : Launch} {A : Nat → Prop} {D : va_G} {ac : Nat → ClassId} {K : KE} {h : HS} {a0 : Nat} {x : Int32} (z : fJ6_coder K h a0 = some x) : Met l yJ6_coder (ws_ yJ6_coder cJ6_coder 1 (some .byte)) (rmC 1 0 K h) (cP A D ac K h [va_rf (some a0)]) (cQi A D ac K (h, x)) (K.2.2.1 - h.2.1) (K.2.2.2 - h.2.2) A := by
  refine c_entry (plainFor_of_name (by decide)) (Nat.le_of_ble_eq_true rfl) ?_
  intro p e s m below meth c S hr hlk hnm hG hRM hH hS ls hl
  replace hl : lv_has ls 1 [(0, va_rf (some a0))] := hl
  replace hnm : meth.name = "coder" := hnm
  replace S : CallFix p m c cJ6_coder 1 s _ lw_all RJ6 := S
  obtain ⟨hx, hb, hml, hown, hts⟩ := id S
  unfold fJ6_coder at z
  refine c_getsC S hG hS q622 dJ6_coder_0 ?_
  refine lv_if_eq (tgt := 13) hx hb dJ6_coder_3 (by decide) (fun c1 => ?_) (fun c1 => ?_)
  · replace z := it c1 z
    refine lv_iconst (v := (1 : Int32)) hx hb dJ6_coder_13 (by decide) ?_
    exact c_iret' S hr hlk rfl hH hS z dJ6_coder_14
  replace z := ie c1 z
  refine c_aload_n hx hb dJ6_coder_6 rfl (lv_at hl 0 rfl) ?_
  replace z := ob z
  obtain ⟨v2, zv2, z⟩ := z
  obtain ⟨fsv2, yv2, zv2⟩ := gI_e zv2
  refine c_get S hG hH (ci := 20) (k := 1) rfl in_J6 (Nat.le_of_ble_eq_true rfl) q674 (fun _ y => y) yv2 zv2 dJ6_coder_7 ?_
  refine lv_goto (tgt := 14) hx hb dJ6_coder_10 (by decide) ?_
  replace z := ob z
  obtain ⟨g3, zg3, z⟩ := z
  obtain ⟨yg3, -⟩ := br_e zg3
  exact c_iret' S hr hlk yg3 hH hS z dJ6_coder_14
/-! java/lang/String.length()I -/
def fJ6_length (K : KE) (h : HS) (a0 : Nat) : Option (Int32) :=
  (gR K h (some a0) 20 0).bind fun v1 =>
  (cN K h v1 3).bind fun v2 =>
  (rcv K h (some a0) 20).bind fun b3 =>
  (fJ6_coder K h b3).bind fun x4 =>
  some (v2 >>> (x4 &&& 31))
set_option maxHeartbeats 4000000 in
theorem metJ6_length {l : Launch} {A : Nat → Prop} {D : va_G} {ac : Nat → ClassId} {K : KE} {h : HS} {a0 : Nat} {x : Int32} (z : fJ6_length K h a0 = some x) : Met l yJ6_length (ws_ yJ6_length cJ6_length 1 (some .int)) (rmC 2 20 K h) (cP A D ac K h [va_rf (some a0)]) (cQi A D ac K (h, x)) (K.2.2.1 - h.2.1) (K.2.2.2 - h.2.2) A := by
  refine c_entry (plainFor_of_name (by decide)) (Nat.le_of_ble_eq_true rfl) ?_
  intro p e s m below meth c S hr hlk hnm hG hRM hH hS ls hl
  replace hl : lv_has ls 1 [(0, va_rf (some a0))] := hl
  replace hnm : meth.name = "length" := hnm
  replace S : CallFix p m c cJ6_length 1 s _ lw_all RJ6 := S
  obtain ⟨hx, hb, hml, hown, hts⟩ := id S
  unfold fJ6_length at z
  refine c_aload_n hx hb dJ6_length_0 rfl (lv_at hl 0 rfl) ?_
  replace z := ob z
  obtain ⟨v1, zv1, z⟩ := z
  obtain ⟨fsv1, yv1, zv1⟩ := gR_e zv1
  refine c_get S hG hH (ci := 20) (k := 0) rfl in_J6 (Nat.le_of_ble_eq_true rfl) q673 (fun _ y => y) yv1 zv1 dJ6_length_1 ?_
  replace z := ob z
  obtain ⟨v2, zv2, z⟩ := z
  refine c_alen S hG hH 3 rfl zv2 dJ6_length_4 ?_
  refine c_aload_n hx hb dJ6_length_5 rfl (lv_at hl 0 rfl) ?_
  replace z := ob z
  obtain ⟨b3, zb3, z⟩ := z
  obtain ⟨yb3, zb3⟩ := rcv_e zb3
  replace z := ob z
  obtain ⟨x4, zx4, z⟩ := z
  refine c_calli hH hS hRM (fun _ _ f1 f2 => va_runV (b := b3) (As := []) (rest := [.int v2]) S (metJ6_coder zx4) (cwV 0 hts (lw_V q786 q787 q788 q180 q789) rfl rfl rfl (by decide +kernel) ⟨(Nat.le_of_ble_eq_true rfl), (Nat.le_of_ble_eq_true rfl)⟩) (c_preV hG hH hS (ci := 20) rfl zb3) rfl rfl hl.1 (by rw [yb3]; rfl) (lv_room (Nat.le_of_ble_eq_true rfl)) dJ6_length_6 ⟨f1, f2⟩) (fun H locs hH hS => ?_)
  refine lv_ishr hx hb dJ6_length_9 ?_
  exact c_iret' S hr hlk rfl hH hS z dJ6_length_10
/-! java/lang/StringLatin1.charAt([BI)C -/
def fJ9_charAt (K : KE) (h : HS) (a0 : Option Nat) (a1 : Int32) : Option (Int32) :=
  (cN K h a0 3).bind fun v1 =>
  (fJ6_checkIndex K h a1 v1).bind fun x2 =>
  (cI K h a0 3 a1).bind fun v3 =>
  (cr (((v3 &&& (255 : Int32)).toUInt32 % 65536).toInt32)).bind fun g4 =>
  some (((v3 &&& (255 : Int32)).toUInt32 % 65536).toInt32)
set_option maxHeartbeats 4000000 in
theorem metJ9_charAt {l : Launch} {A : Nat → Prop} {D : va_G} {ac : Nat → ClassId} {K : KE} {h : HS} {a0 : Option Nat} {a1 : Int32} {x : Int32} (z : fJ9_charAt K h a0 a1 = some x) : Met l yJ9_charAt (ws_ yJ9_charAt cJ9_charAt 2 (some .char)) (rmC 3 43 K h) (cP A D ac K h [va_rf a0, .int a1]) (cQi A D ac K (h, x)) (K.2.2.1 - h.2.1) (K.2.2.2 - h.2.2) A := by
  refine c_entry (plainFor_of_name (by decide)) (by simp [lg_sl, ct_r, ct_i, ct_l]) ?_
  intro p e s m below meth c S hr hlk hnm hG hRM hH hS ls hl
  replace hl : lv_has ls 2 [(0, va_rf a0), (1, .int a1)] := (by simpa [lv_args, ct_r, ct_i, ct_l] using hl)
  replace hnm : meth.name = "charAt" := hnm
  replace S : CallFix p m c cJ9_charAt 2 s _ lw_all RJ9 := S
  obtain ⟨hx, hb, hml, hown, hts⟩ := id S
  unfold fJ9_charAt at z
  refine lv_iload_n hx hb dJ9_charAt_0 rfl (lv_at hl 1 rfl) ?_
  refine c_aload_n hx hb dJ9_charAt_1 rfl (lv_at hl 0 rfl) ?_
  replace z := ob z
  obtain ⟨v1, zv1, z⟩ := z
  refine c_alen S hG hH 3 rfl zv1 dJ9_charAt_2 ?_
  replace z := ob z
  obtain ⟨x2, zx2, z⟩ := z
  refine c_callv hH hS hRM (fun _ _ f1 f2 => va_runS (As := [.int a1, .int v1]) (rest := []) S (metJ6_checkIndex zx2) (va_cwS 2 hts (lw_S q1315 q1175 q180 q1176) rfl rfl rfl (by decide +kernel) ⟨(Nat.le_of_ble_eq_true rfl), (Nat.le_of_ble_eq_true rfl)⟩) (c_pre hG hH hS) rfl rfl hl.1 rfl (lv_room (Nat.le_of_ble_eq_true rfl)) dJ9_charAt_3 ⟨f1, f2⟩) (fun H locs hH hS => ?_)
  refine c_aload_n hx hb dJ9_charAt_6 rfl (lv_at hl 0 rfl) ?_
  refine lv_iload_n hx hb dJ9_charAt_7 rfl (lv_at hl 1 rfl) ?_
  replace z := ob z
  obtain ⟨v3, zv3, z⟩ := z
  refine c_bald S hG hH zv3 dJ9_charAt_8 ?_
  refine lv_sipush (v := (255 : Int32)) hx hb dJ9_charAt_9 (by decide) ?_
  refine lv_iand hx hb dJ9_charAt_12 ?_
  refine lv_i2c (v := ((v3 &&& (255 : Int32)).toUInt32 % 65536).toInt32) hx hb dJ9_charAt_13 rfl ?_
  replace z := ob z
  obtain ⟨g4, zg4, z⟩ := z
  replace zg4 := cr_e zg4
  exact c_iret' S hr hlk zg4 hH hS z dJ9_charAt_14
/-! java/lang/String.charAt(I)C -/
def fJ6_charAt (K : KE) (h : HS) (a0 : Nat) (a1 : Int32) : Option (Int32) :=
  (rcv K h (some a0) 20).bind fun b1 =>
  (fJ6_isLatin1 K h b1).bind fun x2 =>
  if x2 = 0 then
    (gR K h (some a0) 20 0).bind fun v4 =>
    none
  else
  (gR K h (some a0) 20 0).bind fun v5 =>
  (fJ9_charAt K h v5 a1).bind fun x6 =>
  (cr x6).bind fun g7 =>
  some x6
set_option maxHeartbeats 4000000 in
theorem metJ6_charAt {l : Launch} {A : Nat → Prop} {D : va_G} {ac : Nat → ClassId} {K : KE} {h : HS} {a0 : Nat} {a1 : Int32} {x : Int32} (z : fJ6_charAt K h a0 a1 = some x) : Met l yJ6_charAt (ws_ yJ6_charAt cJ6_charAt 2 (some .char)) (rmC 4 64 K h) (cP A D ac K h [va_rf (some a0), .int a1]) (cQi A D ac K (h, x)) (K.2.2.1 - h.2.1) (K.2.2.2 - h.2.2) A := by
  refine c_entry (plainFor_of_name (by decide)) (Nat.le_of_ble_eq_true rfl) ?_
  intro p e s m below meth c S hr hlk hnm hG hRM hH hS ls hl
  replace hl : lv_has ls 2 [(0, va_rf (some a0)), (1, .int a1)] := hl
  replace hnm : meth.name = "charAt" := hnm
  replace S : CallFix p m c cJ6_charAt 2 s _ lw_all RJ6 := S
  obtain ⟨hx, hb, hml, hown, hts⟩ := id S
  unfold fJ6_charAt at z
  refine c_aload_n hx hb dJ6_charAt_0 rfl (lv_at hl 0 rfl) ?_
  replace z := ob z
  obtain ⟨b1, zb1, z⟩ := z
  obtain ⟨yb1, zb1⟩ := rcv_e zb1
  replace z := ob z
  obtain ⟨x2, zx2, z⟩ := z
  refine c_calli hH hS hRM (fun _ _ f1 f2 => va_runV (b := b1) (As := []) (rest := []) S (metJ6_isLatin1 zx2) (cwV 0 hts (lw_V q695 q696 q697 q180 q698) rfl rfl rfl (by decide +kernel) ⟨(Nat.le_of_ble_eq_true rfl), (Nat.le_of_ble_eq_true rfl)⟩) (c_preV hG hH hS (ci := 20) rfl zb1) rfl rfl hl.1 (by rw [yb1]; rfl) (lv_room (Nat.le_of_ble_eq_true rfl)) dJ6_charAt_1 ⟨f1, f2⟩) (fun H locs hH hS => ?_)
  refine lv_if_eq (tgt := 16) hx hb dJ6_charAt_4 (by decide) (fun c3 => ?_) (fun c3 => ?_)
  · replace z := it c3 z
    refine c_aload_n hx hb dJ6_charAt_16 rfl (lv_at hl 0 rfl) ?_
    replace z := ob z
    obtain ⟨v4, zv4, z⟩ := z
    obtain ⟨fsv4, yv4, zv4⟩ := gR_e zv4
    refine c_get S hG hH (ci := 20) (k := 0) rfl in_J6 (Nat.le_of_ble_eq_true rfl) q673 (fun _ y => y) yv4 zv4 dJ6_charAt_17 ?_
    refine lv_iload_n hx hb dJ6_charAt_20 rfl (lv_at hl 1 rfl) ?_
    cases z
  replace z := ie c3 z
  refine c_aload_n hx hb dJ6_charAt_7 rfl (lv_at hl 0 rfl) ?_
  replace z := ob z
  obtain ⟨v5, zv5, z⟩ := z
  obtain ⟨fsv5, yv5, zv5⟩ := gR_e zv5
  refine c_get S hG hH (ci := 20) (k := 0) rfl in_J6 (Nat.le_of_ble_eq_true rfl) q673 (fun _ y => y) yv5 zv5 dJ6_charAt_8 ?_
  refine lv_iload_n hx hb dJ6_charAt_11 rfl (lv_at hl 1 rfl) ?_
  replace z := ob z
  obtain ⟨x6, zx6, z⟩ := z
  refine c_calli hH hS hRM (fun _ _ f1 f2 => va_runS (As := [va_rf v5, .int a1]) (rest := []) S (metJ9_charAt zx6) (va_cwS 2 hts (lw_S q1312 q1313 q183 q1314) rfl rfl rfl (by decide +kernel) ⟨(Nat.le_of_ble_eq_true rfl), (Nat.le_of_ble_eq_true rfl)⟩) (c_pre hG hH hS) rfl rfl hl.1 rfl (lv_room (Nat.le_of_ble_eq_true rfl)) dJ6_charAt_12 ⟨f1, f2⟩) (fun H locs hH hS => ?_)
  replace z := ob z
  obtain ⟨g7, zg7, z⟩ := z
  replace zg7 := cr_e zg7
  exact c_iret' S hr hlk zg7 hH hS z dJ6_charAt_15
/-! FourOnOne$House.<init>()V -/
def fX1_init (K : KE) (h : HS) (a0 : Nat) : Option (HS) :=
  (pV h (some a0) 1 2 (.int (5 : Int32))).bind fun h1 =>
  (alc K h1 (.inr (19, df19)) 3).bind fun h2 =>
  (fJ2_init K h2 h1.2.1 (4 : Int32)).bind fun x3 =>
  (pV x3 (some a0) 1 6 (va_rf (some h1.2.1))).bind fun h4 =>
  (alc K h4 (.inr (19, df19)) 3).bind fun h5 =>
  (fJ2_init K h5 h4.2.1 (4 : Int32)).bind fun x6 =>
  (pV x6 (some a0) 1 7 (va_rf (some h4.2.1))).bind fun h7 =>
  (alc K h7 (.inr (19, df19)) 3).bind fun h8 =>
  (fJ2_init K h8 h7.2.1 (2 : Int32)).bind fun x9 =>
  (pV x9 (some a0) 1 8 (va_rf (some h7.2.1))).bind fun h10 =>
  some h10
set_option maxHeartbeats 4000000 in
theorem metX1_init {l : Launch} {A : Nat → Prop} {D : va_G} {ac : Nat → ClassId} {K : KE} {h : HS} {a0 : Nat} {x : HS} (z : fX1_init K h a0 = some x) : Met l yX1_init (ws_ yX1_init cX1_init 1 (none)) (rmC 5 101 K h) (cP A D ac K h [va_rf (some a0)]) (cQv A D ac K x) (K.2.2.1 - h.2.1) (K.2.2.2 - h.2.2) A := by
  refine c_entry (plainFor_of_name (by decide)) (Nat.le_of_ble_eq_true rfl) ?_
  intro p e s m below meth c S hr hlk hnm hG hRM hH hS ls hl
  replace hl : lv_has ls 1 [(0, va_rf (some a0))] := hl
  replace hnm : meth.name = "<init>" := hnm
  replace S : CallFix p m c cX1_init 1 s _ lw_all RX1 := S
  obtain ⟨hx, hb, hml, hown, hts⟩ := id S
  unfold fX1_init at z
  refine c_aload_n hx hb dX1_init_0 rfl (lv_at hl 0 rfl) ?_
  refine c_obj S q220 q213 q214 hl.1 (Nat.le_of_ble_eq_true rfl) (Nat.le_of_ble_eq_true rfl) (Nat.le_of_ble_eq_true rfl) dX1_init_1 ?_
  refine c_aload_n hx hb dX1_init_4 rfl (lv_at hl 0 rfl) ?_
  refine lv_iconst (v := (5 : Int32)) hx hb dX1_init_5 (by decide) ?_
  replace z := ob z
  obtain ⟨h1, zh1, z⟩ := z
  refine c_put S hG hH hS (ci := 1) (k := 2) rfl in_X1 tyX1 tyX1_ok nmX1 (Nat.le_of_ble_eq_true rfl) q253 (fun _ y => y) rfl (ty := .int) rfl rfl rfl zh1 dX1_init_6 (fun H locs hH hS => ?_)
  refine c_aload_n hx hb dX1_init_9 rfl (lv_at hl 0 rfl) ?_
  replace z := ob z
  obtain ⟨h2, zh2, z⟩ := z
  refine c_new S hG hH hS hRM (ci := 19) rfl in_J2 tyJ2 tyJ2_ok q221 q222 q171 df19_ok zh2 dX1_init_10 (fun H locs hH hS => ?_)
  refine lv_dup hx hb dX1_init_13 (ct_r _) ?_
  refine lv_iconst (v := (4 : Int32)) hx hb dX1_init_14 (by decide) ?_
  replace z := ob z
  obtain ⟨x3, zx3, z⟩ := z
  refine c_callv hH hS hRM (fun _ _ f1 f2 => va_runI (b := h1.2.1) (As := [.int (4 : Int32)]) (rest := [va_rf (some h1.2.1), va_rf (some a0)]) S (metJ2_init zx3) (cwI 1 hts (lw_meth q225) rfl rfl rfl (hts _ q171) (hts _ q223) (hts _ q224) rfl (by decide +kernel) ⟨(Nat.le_of_ble_eq_true rfl), (Nat.le_of_ble_eq_true rfl)⟩) (c_pre hG hH hS) rfl rfl hl.1 rfl (lv_room (by simp [ct_r, ct_i, ct_l])) dX1_init_15 ⟨f1, f2⟩) (fun H locs hH hS => ?_)
  replace z := ob z
  obtain ⟨h4, zh4, z⟩ := z
  refine c_putF S hG hH hS (ci := 1) (k := 6) rfl in_X1 tyX1 tyX1_ok nmX1 (Nat.le_of_ble_eq_true rfl) q263 (fun _ y => y) rfl hnm rfl (ty := .object "java/util/List") rfl (nr_o _) (ft_o _) zh4 dX1_init_18 (fun H locs hH hS => ?_)
  refine c_aload_n hx hb dX1_init_21 rfl (lv_at hl 0 rfl) ?_
  replace z := ob z
  obtain ⟨h5, zh5, z⟩ := z
  refine c_new S hG hH hS hRM (ci := 19) rfl in_J2 tyJ2 tyJ2_ok q221 q222 q171 df19_ok zh5 dX1_init_22 (fun H locs hH hS => ?_)
  refine lv_dup hx hb dX1_init_25 (ct_r _) ?_
  refine lv_iconst (v := (4 : Int32)) hx hb dX1_init_26 (by decide) ?_
  replace z := ob z
  obtain ⟨x6, zx6, z⟩ := z
  refine c_callv hH hS hRM (fun _ _ f1 f2 => va_runI (b := h4.2.1) (As := [.int (4 : Int32)]) (rest := [va_rf (some h4.2.1), va_rf (some a0)]) S (metJ2_init zx6) (cwI 1 hts (lw_meth q225) rfl rfl rfl (hts _ q171) (hts _ q223) (hts _ q224) rfl (by decide +kernel) ⟨(Nat.le_of_ble_eq_true rfl), (Nat.le_of_ble_eq_true rfl)⟩) (c_pre hG hH hS) rfl rfl hl.1 rfl (lv_room (by simp [ct_r, ct_i, ct_l])) dX1_init_27 ⟨f1, f2⟩) (fun H locs hH hS => ?_)
  replace z := ob z
  obtain ⟨h7, zh7, z⟩ := z
  refine c_putF S hG hH hS (ci := 1) (k := 7) rfl in_X1 tyX1 tyX1_ok nmX1 (Nat.le_of_ble_eq_true rfl) q266 (fun _ y => y) rfl hnm rfl (ty := .object "java/util/List") rfl (nr_o _) (ft_o _) zh7 dX1_init_30 (fun H locs hH hS => ?_)
  refine c_aload_n hx hb dX1_init_33 rfl (lv_at hl 0 rfl) ?_
  replace z := ob z
  obtain ⟨h8, zh8, z⟩ := z
  refine c_new S hG hH hS hRM (ci := 19) rfl in_J2 tyJ2 tyJ2_ok q221 q222 q171 df19_ok zh8 dX1_init_34 (fun H locs hH hS => ?_)
  refine lv_dup hx hb dX1_init_37 (ct_r _) ?_
  refine lv_iconst (v := (2 : Int32)) hx hb dX1_init_38 (by decide) ?_
  replace z := ob z
  obtain ⟨x9, zx9, z⟩ := z
  refine c_callv hH hS hRM (fun _ _ f1 f2 => va_runI (b := h7.2.1) (As := [.int (2 : Int32)]) (rest := [va_rf (some h7.2.1), va_rf (some a0)]) S (metJ2_init zx9) (cwI 1 hts (lw_meth q225) rfl rfl rfl (hts _ q171) (hts _ q223) (hts _ q224) rfl (by decide +kernel) ⟨(Nat.le_of_ble_eq_true rfl), (Nat.le_of_ble_eq_true rfl)⟩) (c_pre hG hH hS) rfl rfl hl.1 rfl (lv_room (by simp [ct_r, ct_i, ct_l])) dX1_init_39 ⟨f1, f2⟩) (fun H locs hH hS => ?_)
  replace z := ob z
  obtain ⟨h10, zh10, z⟩ := z
  refine c_putF S hG hH hS (ci := 1) (k := 8) rfl in_X1 tyX1 tyX1_ok nmX1 (Nat.le_of_ble_eq_true rfl) q269 (fun _ y => y) rfl hnm rfl (ty := .object "java/util/List") rfl (nr_o _) (ft_o _) zh10 dX1_init_42 (fun H locs hH hS => ?_)
  exact c_vret S hr hlk hH hS z dX1_init_45
/-! FourOnOne$Fault.<init>()V -/
def fX3_init (K : KE) (h : HS) (a0 : Nat) : Option (HS) :=
  (fJ5_init K h a0 none none (0 : Int32) (0 : Int32)).bind fun x1 =>
  some x1
set_option maxHeartbeats 4000000 in
theorem metX3_init {l : Launch} {A : Nat → Prop} {D : va_G} {ac : Nat → ClassId} {K : KE} {h : HS} {a0 : Nat} {x : HS} (z : fX3_init K h a0 = some x) : Met l yX3_init (ws_ yX3_init cX3_init 1 (none)) (rmC 5 112 K h) (cP A D ac K h [va_rf (some a0)]) (cQv A D ac K x) (K.2.2.1 - h.2.1) (K.2.2.2 - h.2.2) A := by
  refine c_entry (plainFor_of_name (by decide)) (Nat.le_of_ble_eq_true rfl) ?_
  intro p e s m below meth c S hr hlk hnm hG hRM hH hS ls hl
  replace hl : lv_has ls 1 [(0, va_rf (some a0))] := hl
  replace hnm : meth.name = "<init>" := hnm
  replace S : CallFix p m c cX3_init 1 s _ lw_all RX3 := S
  obtain ⟨hx, hb, hml, hown, hts⟩ := id S
  unfold fX3_init at z
  refine c_aload_n hx hb dX3_init_0 rfl (lv_at hl 0 rfl) ?_
  refine c_null hx hb dX3_init_1 ?_
  refine c_null hx hb dX3_init_2 ?_
  refine lv_iconst (v := (0 : Int32)) hx hb dX3_init_3 (by decide) ?_
  refine lv_iconst (v := (0 : Int32)) hx hb dX3_init_4 (by decide) ?_
  replace z := ob z
  obtain ⟨x1, zx1, z⟩ := z
  refine c_callv hH hS hRM (fun _ _ f1 f2 => va_runI (b := a0) (As := [va_rf none, va_rf none, .int (0 : Int32), .int (0 : Int32)]) (rest := []) S (metJ5_init zx1) (cwI 4 hts (lw_meth q353) rfl rfl rfl (hts _ q175) (hts _ q351) (hts _ q352) rfl (by decide +kernel) ⟨(Nat.le_of_ble_eq_true rfl), (Nat.le_of_ble_eq_true rfl)⟩) (c_pre hG hH hS) rfl rfl hl.1 rfl (lv_room (Nat.le_of_ble_eq_true rfl)) dX3_init_5 ⟨f1, f2⟩) (fun H locs hH hS => ?_)
  exact c_vret S hr hlk hH hS z dX3_init_8
/-! FourOnOne$Reader.<init>(LFourOnOne;)V -/
def fX2_init (K : KE) (h : HS) (a0 : Nat) (a1 : Option Nat) : Option (HS) :=
  (pV h (some a0) 2 7 (va_rf a1)).bind fun h1 =>
  (alc K h1 (.inr (3, df3)) 8).bind fun h2 =>
  (fX3_init K h2 h1.2.1).bind fun x3 =>
  (pV x3 (some a0) 2 0 (va_rf (some h1.2.1))).bind fun h4 =>
  some h4
set_option maxHeartbeats 4000000 in
theorem metX2_init {l : Launch} {A : Nat → Prop} {D : va_G} {ac : Nat → ClassId} {K : KE} {h : HS} {a0 : Nat} {a1 : Option Nat} {x : HS} (z : fX2_init K h a0 a1 = some x) : Met l yX2_init (ws_ yX2_init cX2_init 2 (none)) (rmC 6 132 K h) (cP A D ac K h [va_rf (some a0), va_rf a1]) (cQv A D ac K x) (K.2.2.1 - h.2.1) (K.2.2.2 - h.2.2) A := by
  refine c_entry (plainFor_of_name (by decide)) (by simp [lg_sl, ct_r, ct_i, ct_l]) ?_
  intro p e s m below meth c S hr hlk hnm hG hRM hH hS ls hl
  replace hl : lv_has ls 2 [(0, va_rf (some a0)), (1, va_rf a1)] := (by simpa [lv_args, ct_r, ct_i, ct_l] using hl)
  replace hnm : meth.name = "<init>" := hnm
  replace S : CallFix p m c cX2_init 2 s _ lw_all RX2 := S
  obtain ⟨hx, hb, hml, hown, hts⟩ := id S
  unfold fX2_init at z
  refine c_aload_n hx hb dX2_init_0 rfl (lv_at hl 0 rfl) ?_
  refine c_aload_n hx hb dX2_init_1 rfl (lv_at hl 1 rfl) ?_
  replace z := ob z
  obtain ⟨h1, zh1, z⟩ := z
  refine c_putF S hG hH hS (ci := 2) (k := 7) rfl in_X2 tyX2 tyX2_ok nmX2 (Nat.le_of_ble_eq_true rfl) q389 (fun _ y => y) rfl hnm rfl (ty := .object "FourOnOne") rfl (nr_o _) (ft_o _) zh1 dX2_init_2 (fun H locs hH hS => ?_)
  refine c_aload_n hx hb dX2_init_5 rfl (lv_at hl 0 rfl) ?_
  refine c_obj S q308 q213 q214 hl.1 (Nat.le_of_ble_eq_true rfl) (Nat.le_of_ble_eq_true rfl) (Nat.le_of_ble_eq_true rfl) dX2_init_6 ?_
  refine c_aload_n hx hb dX2_init_9 rfl (lv_at hl 0 rfl) ?_
  replace z := ob z
  obtain ⟨h2, zh2, z⟩ := z
  refine c_new S hG hH hS hRM (ci := 3) rfl in_X3 tyX3 tyX3_ok q309 q310 q176 df3_ok zh2 dX2_init_10 (fun H locs hH hS => ?_)
  refine lv_dup hx hb dX2_init_13 (ct_r _) ?_
  replace z := ob z
  obtain ⟨x3, zx3, z⟩ := z
  refine c_callv hH hS hRM (fun _ _ f1 f2 => va_runI (b := h1.2.1) (As := []) (rest := [va_rf (some h1.2.1), va_rf (some a0)]) S (metX3_init zx3) (cwI 0 hts (lw_meth q350) rfl rfl rfl (hts _ q176) (hts _ q348) (hts _ q349) rfl (by decide +kernel) ⟨(Nat.le_of_ble_eq_true rfl), (Nat.le_of_ble_eq_true rfl)⟩) (c_pre hG hH hS) rfl rfl hl.1 rfl (lv_room (by simp [ct_r, ct_i, ct_l])) dX2_init_14 ⟨f1, f2⟩) (fun H locs hH hS => ?_)
  replace z := ob z
  obtain ⟨h4, zh4, z⟩ := z
  refine c_putF S hG hH hS (ci := 2) (k := 0) rfl in_X2 tyX2 tyX2_ok nmX2 (Nat.le_of_ble_eq_true rfl) q382 (fun _ y => y) rfl hnm rfl (ty := .object "FourOnOne$Fault") rfl (nr_o _) (ft_o _) zh4 dX2_init_17 (fun H locs hH hS => ?_)
  exact c_vret S hr hlk hH hS z dX2_init_20
/-! FourOnOne$Moment.<init>()V -/
def fX4_init (K : KE) (h : HS) (a0 : Nat) : Option (HS) :=
  (nA K h 1 (.inr (.inl (fun _ => 0))) (8 : Int32)).bind fun h1 =>
  (pV h1 (some a0) 4 0 (va_rf (some h.2.1))).bind fun h2 =>
  some h2
set_option maxHeartbeats 4000000 in
theorem metX4_init {l : Launch} {A : Nat → Prop} {D : va_G} {ac : Nat → ClassId} {K : KE} {h : HS} {a0 : Nat} {x : HS} (z : fX4_init K h a0 = some x) : Met l yX4_init (ws_ yX4_init cX4_init 1 (none)) (rmC 2 40 K h) (cP A D ac K h [va_rf (some a0)]) (cQv A D ac K x) (K.2.2.1 - h.2.1) (K.2.2.2 - h.2.2) A := by
  refine c_entry (plainFor_of_name (by decide)) (Nat.le_of_ble_eq_true rfl) ?_
  intro p e s m below meth c S hr hlk hnm hG hRM hH hS ls hl
  replace hl : lv_has ls 1 [(0, va_rf (some a0))] := hl
  replace hnm : meth.name = "<init>" := hnm
  replace S : CallFix p m c cX4_init 1 s _ lw_all RX4 := S
  obtain ⟨hx, hb, hml, hown, hts⟩ := id S
  unfold fX4_init at z
  refine c_aload_n hx hb dX4_init_0 rfl (lv_at hl 0 rfl) ?_
  refine c_obj S q412 q213 q214 hl.1 (Nat.le_of_ble_eq_true rfl) (Nat.le_of_ble_eq_true rfl) (Nat.le_of_ble_eq_true rfl) dX4_init_1 ?_
  refine c_aload_n hx hb dX4_init_4 rfl (lv_at hl 0 rfl) ?_
  refine lv_bipush (v := (8 : Int32)) hx hb dX4_init_5 (by decide) ?_
  replace z := ob z
  obtain ⟨h1, zh1, z⟩ := z
  refine c_newa S hG hH hS hRM 1 (atype := .long) (ty := .long) rfl rfl (fun y => y) (by decide) q420 (fun _ => rfl) zh1 dX4_init_7 (fun H locs hH hS => ?_)
  replace z := ob z
  obtain ⟨h2, zh2, z⟩ := z
  refine c_putF S hG hH hS (ci := 4) (k := 0) rfl in_X4 tyX4 tyX4_ok nmX4 (Nat.le_of_ble_eq_true rfl) q413 (fun _ y => y) rfl hnm rfl (ty := .array .long) rfl (nr_a _) (ft_a _) zh2 dX4_init_9 (fun H locs hH hS => ?_)
  exact c_vret S hr hlk hH hS z dX4_init_12
/-! FourOnOne$State.<init>(LFourOnOne;)V -/
def fX5_init (K : KE) (h : HS) (a0 : Nat) (a1 : Option Nat) : Option (HS) :=
  (pV h (some a0) 5 10 (va_rf a1)).bind fun h1 =>
  (nM K h1 8 (6 : Int32) (6 : Int32)).bind fun h2 =>
  (pV h2 (some a0) 5 3 (va_rf (some h1.2.1))).bind fun h3 =>
  (nM K h3 8 (6 : Int32) (8 : Int32)).bind fun h4 =>
  (pV h4 (some a0) 5 4 (va_rf (some h3.2.1))).bind fun h5 =>
  (nA K h5 0 (.inl (fun _ => 0)) (5 : Int32)).bind fun h6 =>
  (pV h6 (some a0) 5 5 (va_rf (some h5.2.1))).bind fun h7 =>
  (nM K h7 8 (40 : Int32) (4 : Int32)).bind fun h8 =>
  (pV h8 (some a0) 5 6 (va_rf (some h7.2.1))).bind fun h9 =>
  (nA K h9 1 (.inr (.inl (fun _ => 0))) (5 : Int32)).bind fun h10 =>
  (pV h10 (some a0) 5 7 (va_rf (some h9.2.1))).bind fun h11 =>
  (nA K h11 0 (.inl (fun _ => 0)) (5 : Int32)).bind fun h12 =>
  (pV h12 (some a0) 5 8 (va_rf (some h11.2.1))).bind fun h13 =>
  some h13
set_option maxHeartbeats 4000000 in
theorem metX5_init {l : Launch} {A : Nat → Prop} {D : va_G} {ac : Nat → ClassId} {K : KE} {h : HS} {a0 : Nat} {a1 : Option Nat} {x : HS} (z : fX5_init K h a0 a1 = some x) : Met l yX5_init (ws_ yX5_init cX5_init 2 (none)) (rmC 2 40 K h) (cP A D ac K h [va_rf (some a0), va_rf a1]) (cQv A D ac K x) (K.2.2.1 - h.2.1) (K.2.2.2 - h.2.2) A := by
  refine c_entry (plainFor_of_name (by decide)) (by simp [lg_sl, ct_r, ct_i, ct_l]) ?_
  intro p e s m below meth c S hr hlk hnm hG hRM hH hS ls hl
  replace hl : lv_has ls 2 [(0, va_rf (some a0)), (1, va_rf a1)] := (by simpa [lv_args, ct_r, ct_i, ct_l] using hl)
  replace hnm : meth.name = "<init>" := hnm
  replace S : CallFix p m c cX5_init 2 s _ lw_all RX5 := S
  obtain ⟨hx, hb, hml, hown, hts⟩ := id S
  unfold fX5_init at z
  refine c_aload_n hx hb dX5_init_0 rfl (lv_at hl 0 rfl) ?_
  refine c_aload_n hx hb dX5_init_1 rfl (lv_at hl 1 rfl) ?_
  replace z := ob z
  obtain ⟨h1, zh1, z⟩ := z
  refine c_putF S hG hH hS (ci := 5) (k := 10) rfl in_X5 tyX5 tyX5_ok nmX5 (Nat.le_of_ble_eq_true rfl) q449 (fun _ y => y) rfl hnm rfl (ty := .object "FourOnOne") rfl (nr_o _) (ft_o _) zh1 dX5_init_2 (fun H locs hH hS => ?_)
  refine c_aload_n hx hb dX5_init_5 rfl (lv_at hl 0 rfl) ?_
  refine c_obj S q426 q213 q214 hl.1 (Nat.le_of_ble_eq_true rfl) (Nat.le_of_ble_eq_true rfl) (Nat.le_of_ble_eq_true rfl) dX5_init_6 ?_
  refine c_aload_n hx hb dX5_init_9 rfl (lv_at hl 0 rfl) ?_
  refine lv_bipush (v := (6 : Int32)) hx hb dX5_init_10 (by decide) ?_
  refine lv_bipush (v := (6 : Int32)) hx hb dX5_init_12 (by decide) ?_
  replace z := ob z
  obtain ⟨h2, zh2, z⟩ := z
  refine c_multi S hG hH hS hRM 8 (ty := .int) rfl rfl (fun y => y) (by decide) rfl rfl rfl (fun _ => rfl) q427 q428 q473 zh2 dX5_init_14 (fun H locs hH hS => ?_)
  replace z := ob z
  obtain ⟨h3, zh3, z⟩ := z
  refine c_putF S hG hH hS (ci := 5) (k := 3) rfl in_X5 tyX5 tyX5_ok nmX5 (Nat.le_of_ble_eq_true rfl) q435 (fun _ y => y) rfl hnm rfl (ty := .array (.array .int)) rfl (nr_a _) (ft_a _) zh3 dX5_init_18 (fun H locs hH hS => ?_)
  refine c_aload_n hx hb dX5_init_21 rfl (lv_at hl 0 rfl) ?_
  refine lv_bipush (v := (6 : Int32)) hx hb dX5_init_22 (by decide) ?_
  refine lv_bipush (v := (8 : Int32)) hx hb dX5_init_24 (by decide) ?_
  replace z := ob z
  obtain ⟨h4, zh4, z⟩ := z
  refine c_multi S hG hH hS hRM 8 (ty := .int) rfl rfl (fun y => y) (by decide) rfl rfl rfl (fun _ => rfl) q427 q428 q473 zh4 dX5_init_26 (fun H locs hH hS => ?_)
  replace z := ob z
  obtain ⟨h5, zh5, z⟩ := z
  refine c_putF S hG hH hS (ci := 5) (k := 4) rfl in_X5 tyX5 tyX5_ok nmX5 (Nat.le_of_ble_eq_true rfl) q437 (fun _ y => y) rfl hnm rfl (ty := .array (.array .int)) rfl (nr_a _) (ft_a _) zh5 dX5_init_30 (fun H locs hH hS => ?_)
  refine c_aload_n hx hb dX5_init_33 rfl (lv_at hl 0 rfl) ?_
  refine lv_iconst (v := (5 : Int32)) hx hb dX5_init_34 (by decide) ?_
  replace z := ob z
  obtain ⟨h6, zh6, z⟩ := z
  refine c_newa S hG hH hS hRM 0 (atype := .int) (ty := .int) rfl rfl (fun y => y) (by decide) q473 (fun _ => rfl) zh6 dX5_init_35 (fun H locs hH hS => ?_)
  replace z := ob z
  obtain ⟨h7, zh7, z⟩ := z
  refine c_putF S hG hH hS (ci := 5) (k := 5) rfl in_X5 tyX5 tyX5_ok nmX5 (Nat.le_of_ble_eq_true rfl) q439 (fun _ y => y) rfl hnm rfl (ty := .array .int) rfl (nr_a _) (ft_a _) zh7 dX5_init_37 (fun H locs hH hS => ?_)
  refine c_aload_n hx hb dX5_init_40 rfl (lv_at hl 0 rfl) ?_
  refine lv_bipush (v := (40 : Int32)) hx hb dX5_init_41 (by decide) ?_
  refine lv_iconst (v := (4 : Int32)) hx hb dX5_init_43 (by decide) ?_
  replace z := ob z
  obtain ⟨h8, zh8, z⟩ := z
  refine c_multi S hG hH hS hRM 8 (ty := .int) rfl rfl (fun y => y) (by decide) rfl rfl rfl (fun _ => rfl) q427 q428 q473 zh8 dX5_init_44 (fun H locs hH hS => ?_)
  replace z := ob z
  obtain ⟨h9, zh9, z⟩ := z
  refine c_putF S hG hH hS (ci := 5) (k := 6) rfl in_X5 tyX5 tyX5_ok nmX5 (Nat.le_of_ble_eq_true rfl) q441 (fun _ y => y) rfl hnm rfl (ty := .array (.array .int)) rfl (nr_a _) (ft_a _) zh9 dX5_init_48 (fun H locs hH hS => ?_)
  refine c_aload_n hx hb dX5_init_51 rfl (lv_at hl 0 rfl) ?_
  refine lv_iconst (v := (5 : Int32)) hx hb dX5_init_52 (by decide) ?_
  replace z := ob z
  obtain ⟨h10, zh10, z⟩ := z
  refine c_newa S hG hH hS hRM 1 (atype := .long) (ty := .long) rfl rfl (fun y => y) (by decide) q420 (fun _ => rfl) zh10 dX5_init_53 (fun H locs hH hS => ?_)
  replace z := ob z
  obtain ⟨h11, zh11, z⟩ := z
  refine c_putF S hG hH hS (ci := 5) (k := 7) rfl in_X5 tyX5 tyX5_ok nmX5 (Nat.le_of_ble_eq_true rfl) q443 (fun _ y => y) rfl hnm rfl (ty := .array .long) rfl (nr_a _) (ft_a _) zh11 dX5_init_55 (fun H locs hH hS => ?_)
  refine c_aload_n hx hb dX5_init_58 rfl (lv_at hl 0 rfl) ?_
  refine lv_iconst (v := (5 : Int32)) hx hb dX5_init_59 (by decide) ?_
  replace z := ob z
  obtain ⟨h12, zh12, z⟩ := z
  refine c_newa S hG hH hS hRM 0 (atype := .int) (ty := .int) rfl rfl (fun y => y) (by decide) q473 (fun _ => rfl) zh12 dX5_init_60 (fun H locs hH hS => ?_)
  replace z := ob z
  obtain ⟨h13, zh13, z⟩ := z
  refine c_putF S hG hH hS (ci := 5) (k := 8) rfl in_X5 tyX5 tyX5_ok nmX5 (Nat.le_of_ble_eq_true rfl) q445 (fun _ y => y) rfl hnm rfl (ty := .array .int) rfl (nr_a _) (ft_a _) zh13 dX5_init_62 (fun H locs hH hS => ?_)
  exact c_vret S hr hlk hH hS z dX5_init_65
/-! FourOnOne.<init>()V -/
def fX0_init_141 (K : KE) (a0 : Nat) : Nat → HS → Int32 → Option (HS)
  | 0, _, _ => none
  | n + 1, h, a1 =>
    if (20 : Int32) ≤ a1 then
      (pV h (some a0) 0 18 (.long (1 : Int64))).bind fun h2 =>
      (nA K h2 3 (.inl (fun _ => 0)) (139 : Int32)).bind fun h3 =>
      (pV h3 (some a0) 0 20 (va_rf (some h2.2.1))).bind fun h4 =>
      some h4
    else
    (gR K h (some a0) 0 16).bind fun v5 =>
    (alc K h (.inr (5, df5)) 11).bind fun h6 =>
    (fX5_init K h6 h.2.1 (some a0)).bind fun x7 =>
    (sCR K x7 v5 7 a1 (some h.2.1)).bind fun h8 =>
    fX0_init_141 K a0 n h8 (a1 + (1 : Int32))
def fX0_init (K : KE) (h : HS) (a0 : Nat) : Option (HS) :=
  (alc K h (.inr (1, df1)) 12).bind fun h1 =>
  (fX1_init K h1 h.2.1).bind fun x2 =>
  (pV x2 (some a0) 0 0 (va_rf (some h.2.1))).bind fun h3 =>
  (nA K h3 3 (.inl (fun _ => 0)) (1600 : Int32)).bind fun h4 =>
  (pV h4 (some a0) 0 1 (va_rf (some h3.2.1))).bind fun h5 =>
  (pV h5 (some a0) 0 4 (.int (-1 : Int32))).bind fun h6 =>
  (alc K h6 (.inr (2, df2)) 8).bind fun h7 =>
  (fX2_init K h7 h6.2.1 (some a0)).bind fun x8 =>
  (pV x8 (some a0) 0 5 (va_rf (some h6.2.1))).bind fun h9 =>
  (alc K h9 (.inr (4, df4)) 1).bind fun h10 =>
  (fX4_init K h10 h9.2.1).bind fun x11 =>
  (pV x11 (some a0) 0 6 (va_rf (some h9.2.1))).bind fun h12 =>
  (alc K h12 (.inr (4, df4)) 1).bind fun h13 =>
  (fX4_init K h13 h12.2.1).bind fun x14 =>
  (pV x14 (some a0) 0 7 (va_rf (some h12.2.1))).bind fun h15 =>
  (nA K h15 0 (.inl (fun _ => 0)) (6 : Int32)).bind fun h16 =>
  (pV h16 (some a0) 0 8 (va_rf (some h15.2.1))).bind fun h17 =>
  (alc K h17 (.inr (5, df5)) 11).bind fun h18 =>
  (fX5_init K h18 h17.2.1 (some a0)).bind fun x19 =>
  (pV x19 (some a0) 0 9 (va_rf (some h17.2.1))).bind fun h20 =>
  (alc K h20 (.inr (5, df5)) 11).bind fun h21 =>
  (fX5_init K h21 h20.2.1 (some a0)).bind fun x22 =>
  (pV x22 (some a0) 0 10 (va_rf (some h20.2.1))).bind fun h23 =>
  (nM K h23 9 (32 : Int32) (5 : Int32)).bind fun h24 =>
  (pV h24 (some a0) 0 11 (va_rf (some h23.2.1))).bind fun h25 =>
  (nA K h25 0 (.inl (fun _ => 0)) (16 : Int32)).bind fun h26 =>
  (pV h26 (some a0) 0 12 (va_rf (some h25.2.1))).bind fun h27 =>
  (nA K h27 0 (.inl (fun _ => 0)) (16 : Int32)).bind fun h28 =>
  (pV h28 (some a0) 0 13 (va_rf (some h27.2.1))).bind fun h29 =>
  (nA K h29 4 (.inl (fun _ => 0)) (16 : Int32)).bind fun h30 =>
  (pV h30 (some a0) 0 14 (va_rf (some h29.2.1))).bind fun h31 =>
  (nA K h31 7 (.inr (.inr (.inr (.inr (fun _ => none))))) (20 : Int32)).bind fun h32 =>
  (pV h32 (some a0) 0 16 (va_rf (some h31.2.1))).bind fun h33 =>
  fX0_init_141 K a0 FU h33 (0 : Int32)
set_option maxHeartbeats 4000000 in
theorem wX0_init_141 {p : Program} {l : Launch} {e : Env} {s : State} {m : MethodId} {args : Array Value} {below : List Frame} {meth : Method} {c : Code} {A : Nat → Prop} {D : va_G} {ac : Nat → ClassId} {K : KE} {h0 : HS} {a0 : Nat} (S : CallFix p m c cX0_init 2 s args lw_all RX0) (hr : meth.sig.returnType = none) (hlk : meth.locks = false) (hnm : meth.name = "<init>") (hG : GK A D ac K s) (hRM : RM K s (rmC 7 153 K h0)) {x : HS} : ∀ (n : Nat) (h : HS) (a1 : Int32), fX0_init_141 K a0 n h a1 = some x → cGo p l e (rmC 7 153 K h0) s m args below meth c A D ac K (MQ below (cQv A D ac K x) args s (K.2.2.1 - h0.2.1) (K.2.2.2 - h0.2.2) A) 2 141 [(0, va_rf (some a0)), (1, .int a1)] [] h := by
  obtain ⟨hx, hb, hml, hown, hts⟩ := id S
  intro n
  induction n with
  | zero => intro h a1 z; cases z
  | succ n ih =>
    intro h a1 z H locs hH hS ls hl
    rw [fX0_init_141] at z
    refine lv_iload_n hx hb dX0_init_141 rfl (lv_at hl 1 rfl) ?_
    refine lv_bipush (v := (20 : Int32)) hx hb dX0_init_142 (by decide) ?_
    refine lv_icmp_ge (tgt := 167) hx hb dX0_init_144 (by decide) (fun c1 => ?_) (fun c1 => ?_)
    · replace z := it c1 z
      refine c_aload_n hx hb dX0_init_167 rfl (lv_at hl 0 rfl) ?_
      refine lv_lconst (v := (1 : Int64)) hx hb dX0_init_168 (by decide) ?_
      replace z := ob z
      obtain ⟨h2, zh2, z⟩ := z
      refine c_put S hG hH hS (ci := 0) (k := 18) rfl in_X0 tyX0 tyX0_ok nmX0 (Nat.le_of_ble_eq_true rfl) q498 (fun _ y => y) rfl (ty := .long) rfl rfl rfl zh2 dX0_init_169 (fun H locs hH hS => ?_)
      refine c_aload_n hx hb dX0_init_172 rfl (lv_at hl 0 rfl) ?_
      refine lv_sipush (v := (139 : Int32)) hx hb dX0_init_173 (by decide) ?_
      replace z := ob z
      obtain ⟨h3, zh3, z⟩ := z
      refine c_newa S hG hH hS hRM 3 (atype := .byte) (ty := .byte) rfl rfl (fun y => y) (by decide) q381 (fun _ => rfl) zh3 dX0_init_176 (fun H locs hH hS => ?_)
      replace z := ob z
      obtain ⟨h4, zh4, z⟩ := z
      refine c_putF S hG hH hS (ci := 0) (k := 20) rfl in_X0 tyX0 tyX0_ok nmX0 (Nat.le_of_ble_eq_true rfl) q500 (fun _ y => y) rfl hnm rfl (ty := .array .byte) rfl (nr_a _) (ft_a _) zh4 dX0_init_178 (fun H locs hH hS => ?_)
      exact c_vret S hr hlk hH hS z dX0_init_181
    replace z := ie c1 z
    refine c_aload_n hx hb dX0_init_147 rfl (lv_at hl 0 rfl) ?_
    replace z := ob z
    obtain ⟨v5, zv5, z⟩ := z
    obtain ⟨fsv5, yv5, zv5⟩ := gR_e zv5
    refine c_get S hG hH (ci := 0) (k := 16) rfl in_X0 (Nat.le_of_ble_eq_true rfl) q496 (fun _ y => y) yv5 zv5 dX0_init_148 ?_
    refine lv_iload_n hx hb dX0_init_151 rfl (lv_at hl 1 rfl) ?_
    replace z := ob z
    obtain ⟨h6, zh6, z⟩ := z
    refine c_new S hG hH hS hRM (ci := 5) rfl in_X5 tyX5 tyX5_ok q421 q422 q178 df5_ok zh6 dX0_init_152 (fun H locs hH hS => ?_)
    refine lv_dup hx hb dX0_init_155 (ct_r _) ?_
    refine c_aload_n hx hb dX0_init_156 rfl (lv_at hl 0 rfl) ?_
    replace z := ob z
    obtain ⟨x7, zx7, z⟩ := z
    refine c_callv hH hS hRM (fun _ _ f1 f2 => va_runIN (b := h.2.1) (As := [va_rf (some a0)]) (rest := [va_rf (some h.2.1), .int a1, va_rf v5]) S (metX5_init zx7) ⟨va_cnB 1 hts (lw_meth q425) rfl rfl rfl (hG.2.1.2.1 _ _ _ _ q423) (hts _ q178) (by decide +kernel) ⟨(Nat.le_of_ble_eq_true rfl), (Nat.le_of_ble_eq_true rfl)⟩, rfl, hts _ q424⟩ (c_pre hG hH hS) rfl rfl hl.1 rfl (lv_room (by simp [ct_r, ct_i, ct_l])) dX0_init_157 ⟨f1, f2⟩) (fun H locs hH hS => ?_)
    replace z := ob z
    obtain ⟨h8, zh8, z⟩ := z
    refine c_aast S hG hH hS 7 zh8 dX0_init_160 (fun H locs hH hS => ?_)
    refine lv_iinc (v := (a1 + (1 : Int32))) (lv' := [(1, .int (a1 + (1 : Int32))), (0, va_rf (some a0))]) hx hb dX0_init_161 hl (k := 1) rfl rfl (by decide) rfl (fun ls hl => ?_)
    refine lv_goto (tgt := 141) hx hb dX0_init_164 (by decide) ?_
    exact ih h8 (a1 + (1 : Int32)) z _ _ hH hS _ (lv_sub hl [1, 0] rfl)
set_option maxHeartbeats 4000000 in
theorem metX0_init {l : Launch} {A : Nat → Prop} {D : va_G} {ac : Nat → ClassId} {K : KE} {h : HS} {a0 : Nat} {x : HS} (z : fX0_init K h a0 = some x) : Met l yX0_init (ws_ yX0_init cX0_init 2 (none)) (rmC 7 153 K h) (cP A D ac K h [va_rf (some a0)]) (cQv A D ac K x) (K.2.2.1 - h.2.1) (K.2.2.2 - h.2.2) A := by
  refine c_entry (plainFor_of_name (by decide)) (Nat.le_of_ble_eq_true rfl) ?_
  intro p e s m below meth c S hr hlk hnm hG hRM hH hS ls hl
  replace hl : lv_has ls 2 [(0, va_rf (some a0))] := hl
  replace hnm : meth.name = "<init>" := hnm
  replace S : CallFix p m c cX0_init 2 s _ lw_all RX0 := S
  obtain ⟨hx, hb, hml, hown, hts⟩ := id S
  unfold fX0_init at z
  refine c_aload_n hx hb dX0_init_0 rfl (lv_at hl 0 rfl) ?_
  refine c_obj S q212 q213 q214 hl.1 (Nat.le_of_ble_eq_true rfl) (Nat.le_of_ble_eq_true rfl) (Nat.le_of_ble_eq_true rfl) dX0_init_1 ?_
  refine c_aload_n hx hb dX0_init_4 rfl (lv_at hl 0 rfl) ?_
  replace z := ob z
  obtain ⟨h1, zh1, z⟩ := z
  refine c_new S hG hH hS hRM (ci := 1) rfl in_X1 tyX1 tyX1_ok q215 q216 q168 df1_ok zh1 dX0_init_5 (fun H locs hH hS => ?_)
  refine lv_dup hx hb dX0_init_8 (ct_r _) ?_
  replace z := ob z
  obtain ⟨x2, zx2, z⟩ := z
  refine c_callv hH hS hRM (fun _ _ f1 f2 => va_runIN (b := h.2.1) (As := []) (rest := [va_rf (some h.2.1), va_rf (some a0)]) S (metX1_init zx2) ⟨va_cnB 0 hts (lw_meth q219) rfl rfl rfl (hG.2.1.2.1 _ _ _ _ q217) (hts _ q168) (by decide +kernel) ⟨(Nat.le_of_ble_eq_true rfl), (Nat.le_of_ble_eq_true rfl)⟩, rfl, hts _ q218⟩ (c_pre hG hH hS) rfl rfl hl.1 rfl (lv_room (by simp [ct_r, ct_i, ct_l])) dX0_init_9 ⟨f1, f2⟩) (fun H locs hH hS => ?_)
  replace z := ob z
  obtain ⟨h3, zh3, z⟩ := z
  refine c_put S hG hH hS (ci := 0) (k := 0) rfl in_X0 tyX0 tyX0_ok nmX0 (Nat.le_of_ble_eq_true rfl) q478 (fun _ y => y) rfl (ty := .object "FourOnOne$House") rfl (nr_o _) (ft_o _) zh3 dX0_init_12 (fun H locs hH hS => ?_)
  refine c_aload_n hx hb dX0_init_15 rfl (lv_at hl 0 rfl) ?_
  refine lv_sipush (v := (1600 : Int32)) hx hb dX0_init_16 (by decide) ?_
  replace z := ob z
  obtain ⟨h4, zh4, z⟩ := z
  refine c_newa S hG hH hS hRM 3 (atype := .byte) (ty := .byte) rfl rfl (fun y => y) (by decide) q381 (fun _ => rfl) zh4 dX0_init_19 (fun H locs hH hS => ?_)
  replace z := ob z
  obtain ⟨h5, zh5, z⟩ := z
  refine c_putF S hG hH hS (ci := 0) (k := 1) rfl in_X0 tyX0 tyX0_ok nmX0 (Nat.le_of_ble_eq_true rfl) q480 (fun _ y => y) rfl hnm rfl (ty := .array .byte) rfl (nr_a _) (ft_a _) zh5 dX0_init_21 (fun H locs hH hS => ?_)
  refine c_aload_n hx hb dX0_init_24 rfl (lv_at hl 0 rfl) ?_
  refine lv_iconst (v := (-1 : Int32)) hx hb dX0_init_25 (by decide) ?_
  replace z := ob z
  obtain ⟨h6, zh6, z⟩ := z
  refine c_put S hG hH hS (ci := 0) (k := 4) rfl in_X0 tyX0 tyX0_ok nmX0 (Nat.le_of_ble_eq_true rfl) q483 (fun _ y => y) rfl (ty := .int) rfl rfl rfl zh6 dX0_init_26 (fun H locs hH hS => ?_)
  refine c_aload_n hx hb dX0_init_29 rfl (lv_at hl 0 rfl) ?_
  replace z := ob z
  obtain ⟨h7, zh7, z⟩ := z
  refine c_new S hG hH hS hRM (ci := 2) rfl in_X2 tyX2 tyX2_ok q303 q304 q172 df2_ok zh7 dX0_init_30 (fun H locs hH hS => ?_)
  refine lv_dup hx hb dX0_init_33 (ct_r _) ?_
  refine c_aload_n hx hb dX0_init_34 rfl (lv_at hl 0 rfl) ?_
  replace z := ob z
  obtain ⟨x8, zx8, z⟩ := z
  refine c_callv hH hS hRM (fun _ _ f1 f2 => va_runIN (b := h6.2.1) (As := [va_rf (some a0)]) (rest := [va_rf (some h6.2.1), va_rf (some a0)]) S (metX2_init zx8) ⟨va_cnB 1 hts (lw_meth q307) rfl rfl rfl (hG.2.1.2.1 _ _ _ _ q305) (hts _ q172) (by decide +kernel) ⟨(Nat.le_of_ble_eq_true rfl), (Nat.le_of_ble_eq_true rfl)⟩, rfl, hts _ q306⟩ (c_pre hG hH hS) rfl rfl hl.1 rfl (lv_room (by simp [ct_r, ct_i, ct_l])) dX0_init_35 ⟨f1, f2⟩) (fun H locs hH hS => ?_)
  replace z := ob z
  obtain ⟨h9, zh9, z⟩ := z
  refine c_putF S hG hH hS (ci := 0) (k := 5) rfl in_X0 tyX0 tyX0_ok nmX0 (Nat.le_of_ble_eq_true rfl) q484 (fun _ y => y) rfl hnm rfl (ty := .object "FourOnOne$Reader") rfl (nr_o _) (ft_o _) zh9 dX0_init_38 (fun H locs hH hS => ?_)
  refine c_aload_n hx hb dX0_init_41 rfl (lv_at hl 0 rfl) ?_
  replace z := ob z
  obtain ⟨h10, zh10, z⟩ := z
  refine c_new S hG hH hS hRM (ci := 4) rfl in_X4 tyX4 tyX4_ok q407 q408 q177 df4_ok zh10 dX0_init_42 (fun H locs hH hS => ?_)
  refine lv_dup hx hb dX0_init_45 (ct_r _) ?_
  replace z := ob z
  obtain ⟨x11, zx11, z⟩ := z
  refine c_callv hH hS hRM (fun _ _ f1 f2 => va_runIN (b := h9.2.1) (As := []) (rest := [va_rf (some h9.2.1), va_rf (some a0)]) S (metX4_init zx11) ⟨va_cnB 0 hts (lw_meth q411) rfl rfl rfl (hG.2.1.2.1 _ _ _ _ q409) (hts _ q177) (by decide +kernel) ⟨(Nat.le_of_ble_eq_true rfl), (Nat.le_of_ble_eq_true rfl)⟩, rfl, hts _ q410⟩ (c_pre hG hH hS) rfl rfl hl.1 rfl (lv_room (by simp [ct_r, ct_i, ct_l])) dX0_init_46 ⟨f1, f2⟩) (fun H locs hH hS => ?_)
  replace z := ob z
  obtain ⟨h12, zh12, z⟩ := z
  refine c_putF S hG hH hS (ci := 0) (k := 6) rfl in_X0 tyX0 tyX0_ok nmX0 (Nat.le_of_ble_eq_true rfl) q486 (fun _ y => y) rfl hnm rfl (ty := .object "FourOnOne$Moment") rfl (nr_o _) (ft_o _) zh12 dX0_init_49 (fun H locs hH hS => ?_)
  refine c_aload_n hx hb dX0_init_52 rfl (lv_at hl 0 rfl) ?_
  replace z := ob z
  obtain ⟨h13, zh13, z⟩ := z
  refine c_new S hG hH hS hRM (ci := 4) rfl in_X4 tyX4 tyX4_ok q407 q408 q177 df4_ok zh13 dX0_init_53 (fun H locs hH hS => ?_)
  refine lv_dup hx hb dX0_init_56 (ct_r _) ?_
  replace z := ob z
  obtain ⟨x14, zx14, z⟩ := z
  refine c_callv hH hS hRM (fun _ _ f1 f2 => va_runIN (b := h12.2.1) (As := []) (rest := [va_rf (some h12.2.1), va_rf (some a0)]) S (metX4_init zx14) ⟨va_cnB 0 hts (lw_meth q411) rfl rfl rfl (hG.2.1.2.1 _ _ _ _ q409) (hts _ q177) (by decide +kernel) ⟨(Nat.le_of_ble_eq_true rfl), (Nat.le_of_ble_eq_true rfl)⟩, rfl, hts _ q410⟩ (c_pre hG hH hS) rfl rfl hl.1 rfl (lv_room (by simp [ct_r, ct_i, ct_l])) dX0_init_57 ⟨f1, f2⟩) (fun H locs hH hS => ?_)
  replace z := ob z
  obtain ⟨h15, zh15, z⟩ := z
  refine c_putF S hG hH hS (ci := 0) (k := 7) rfl in_X0 tyX0 tyX0_ok nmX0 (Nat.le_of_ble_eq_true rfl) q487 (fun _ y => y) rfl hnm rfl (ty := .object "FourOnOne$Moment") rfl (nr_o _) (ft_o _) zh15 dX0_init_60 (fun H locs hH hS => ?_)
  refine c_aload_n hx hb dX0_init_63 rfl (lv_at hl 0 rfl) ?_
  refine lv_bipush (v := (6 : Int32)) hx hb dX0_init_64 (by decide) ?_
  replace z := ob z
  obtain ⟨h16, zh16, z⟩ := z
  refine c_newa S hG hH hS hRM 0 (atype := .int) (ty := .int) rfl rfl (fun y => y) (by decide) q473 (fun _ => rfl) zh16 dX0_init_66 (fun H locs hH hS => ?_)
  replace z := ob z
  obtain ⟨h17, zh17, z⟩ := z
  refine c_putF S hG hH hS (ci := 0) (k := 8) rfl in_X0 tyX0 tyX0_ok nmX0 (Nat.le_of_ble_eq_true rfl) q488 (fun _ y => y) rfl hnm rfl (ty := .array .int) rfl (nr_a _) (ft_a _) zh17 dX0_init_68 (fun H locs hH hS => ?_)
  refine c_aload_n hx hb dX0_init_71 rfl (lv_at hl 0 rfl) ?_
  replace z := ob z
  obtain ⟨h18, zh18, z⟩ := z
  refine c_new S hG hH hS hRM (ci := 5) rfl in_X5 tyX5 tyX5_ok q421 q422 q178 df5_ok zh18 dX0_init_72 (fun H locs hH hS => ?_)
  refine lv_dup hx hb dX0_init_75 (ct_r _) ?_
  refine c_aload_n hx hb dX0_init_76 rfl (lv_at hl 0 rfl) ?_
  replace z := ob z
  obtain ⟨x19, zx19, z⟩ := z
  refine c_callv hH hS hRM (fun _ _ f1 f2 => va_runIN (b := h17.2.1) (As := [va_rf (some a0)]) (rest := [va_rf (some h17.2.1), va_rf (some a0)]) S (metX5_init zx19) ⟨va_cnB 1 hts (lw_meth q425) rfl rfl rfl (hG.2.1.2.1 _ _ _ _ q423) (hts _ q178) (by decide +kernel) ⟨(Nat.le_of_ble_eq_true rfl), (Nat.le_of_ble_eq_true rfl)⟩, rfl, hts _ q424⟩ (c_pre hG hH hS) rfl rfl hl.1 rfl (lv_room (by simp [ct_r, ct_i, ct_l])) dX0_init_77 ⟨f1, f2⟩) (fun H locs hH hS => ?_)
  replace z := ob z
  obtain ⟨h20, zh20, z⟩ := z
  refine c_putF S hG hH hS (ci := 0) (k := 9) rfl in_X0 tyX0 tyX0_ok nmX0 (Nat.le_of_ble_eq_true rfl) q489 (fun _ y => y) rfl hnm rfl (ty := .object "FourOnOne$State") rfl (nr_o _) (ft_o _) zh20 dX0_init_80 (fun H locs hH hS => ?_)
  refine c_aload_n hx hb dX0_init_83 rfl (lv_at hl 0 rfl) ?_
  replace z := ob z
  obtain ⟨h21, zh21, z⟩ := z
  refine c_new S hG hH hS hRM (ci := 5) rfl in_X5 tyX5 tyX5_ok q421 q422 q178 df5_ok zh21 dX0_init_84 (fun H locs hH hS => ?_)
  refine lv_dup hx hb dX0_init_87 (ct_r _) ?_
  refine c_aload_n hx hb dX0_init_88 rfl (lv_at hl 0 rfl) ?_
  replace z := ob z
  obtain ⟨x22, zx22, z⟩ := z
  refine c_callv hH hS hRM (fun _ _ f1 f2 => va_runIN (b := h20.2.1) (As := [va_rf (some a0)]) (rest := [va_rf (some h20.2.1), va_rf (some a0)]) S (metX5_init zx22) ⟨va_cnB 1 hts (lw_meth q425) rfl rfl rfl (hG.2.1.2.1 _ _ _ _ q423) (hts _ q178) (by decide +kernel) ⟨(Nat.le_of_ble_eq_true rfl), (Nat.le_of_ble_eq_true rfl)⟩, rfl, hts _ q424⟩ (c_pre hG hH hS) rfl rfl hl.1 rfl (lv_room (by simp [ct_r, ct_i, ct_l])) dX0_init_89 ⟨f1, f2⟩) (fun H locs hH hS => ?_)
  replace z := ob z
  obtain ⟨h23, zh23, z⟩ := z
  refine c_putF S hG hH hS (ci := 0) (k := 10) rfl in_X0 tyX0 tyX0_ok nmX0 (Nat.le_of_ble_eq_true rfl) q490 (fun _ y => y) rfl hnm rfl (ty := .object "FourOnOne$State") rfl (nr_o _) (ft_o _) zh23 dX0_init_92 (fun H locs hH hS => ?_)
  refine c_aload_n hx hb dX0_init_95 rfl (lv_at hl 0 rfl) ?_
  refine lv_bipush (v := (32 : Int32)) hx hb dX0_init_96 (by decide) ?_
  refine lv_iconst (v := (5 : Int32)) hx hb dX0_init_98 (by decide) ?_
  replace z := ob z
  obtain ⟨h24, zh24, z⟩ := z
  refine c_multi S hG hH hS hRM 9 (ty := .long) rfl rfl (fun y => y) (by decide) rfl rfl rfl (fun _ => rfl) q474 q475 q420 zh24 dX0_init_99 (fun H locs hH hS => ?_)
  replace z := ob z
  obtain ⟨h25, zh25, z⟩ := z
  refine c_putF S hG hH hS (ci := 0) (k := 11) rfl in_X0 tyX0 tyX0_ok nmX0 (Nat.le_of_ble_eq_true rfl) q491 (fun _ y => y) rfl hnm rfl (ty := .array (.array .long)) rfl (nr_a _) (ft_a _) zh25 dX0_init_103 (fun H locs hH hS => ?_)
  refine c_aload_n hx hb dX0_init_106 rfl (lv_at hl 0 rfl) ?_
  refine lv_bipush (v := (16 : Int32)) hx hb dX0_init_107 (by decide) ?_
  replace z := ob z
  obtain ⟨h26, zh26, z⟩ := z
  refine c_newa S hG hH hS hRM 0 (atype := .int) (ty := .int) rfl rfl (fun y => y) (by decide) q473 (fun _ => rfl) zh26 dX0_init_109 (fun H locs hH hS => ?_)
  replace z := ob z
  obtain ⟨h27, zh27, z⟩ := z
  refine c_putF S hG hH hS (ci := 0) (k := 12) rfl in_X0 tyX0 tyX0_ok nmX0 (Nat.le_of_ble_eq_true rfl) q492 (fun _ y => y) rfl hnm rfl (ty := .array .int) rfl (nr_a _) (ft_a _) zh27 dX0_init_111 (fun H locs hH hS => ?_)
  refine c_aload_n hx hb dX0_init_114 rfl (lv_at hl 0 rfl) ?_
  refine lv_bipush (v := (16 : Int32)) hx hb dX0_init_115 (by decide) ?_
  replace z := ob z
  obtain ⟨h28, zh28, z⟩ := z
  refine c_newa S hG hH hS hRM 0 (atype := .int) (ty := .int) rfl rfl (fun y => y) (by decide) q473 (fun _ => rfl) zh28 dX0_init_117 (fun H locs hH hS => ?_)
  replace z := ob z
  obtain ⟨h29, zh29, z⟩ := z
  refine c_putF S hG hH hS (ci := 0) (k := 13) rfl in_X0 tyX0 tyX0_ok nmX0 (Nat.le_of_ble_eq_true rfl) q493 (fun _ y => y) rfl hnm rfl (ty := .array .int) rfl (nr_a _) (ft_a _) zh29 dX0_init_119 (fun H locs hH hS => ?_)
  refine c_aload_n hx hb dX0_init_122 rfl (lv_at hl 0 rfl) ?_
  refine lv_bipush (v := (16 : Int32)) hx hb dX0_init_123 (by decide) ?_
  replace z := ob z
  obtain ⟨h30, zh30, z⟩ := z
  refine c_newa S hG hH hS hRM 4 (atype := .boolean) (ty := .boolean) rfl rfl (fun y => y) (by decide) q547 (fun _ => rfl) zh30 dX0_init_125 (fun H locs hH hS => ?_)
  replace z := ob z
  obtain ⟨h31, zh31, z⟩ := z
  refine c_putF S hG hH hS (ci := 0) (k := 14) rfl in_X0 tyX0 tyX0_ok nmX0 (Nat.le_of_ble_eq_true rfl) q494 (fun _ y => y) rfl hnm rfl (ty := .array .boolean) rfl (nr_a _) (ft_a _) zh31 dX0_init_127 (fun H locs hH hS => ?_)
  refine c_aload_n hx hb dX0_init_130 rfl (lv_at hl 0 rfl) ?_
  refine lv_bipush (v := (20 : Int32)) hx hb dX0_init_131 (by decide) ?_
  replace z := ob z
  obtain ⟨h32, zh32, z⟩ := z
  refine c_anew S hG hH hS hRM 7 rfl q421 q476 zh32 dX0_init_133 (fun H locs hH hS => ?_)
  replace z := ob z
  obtain ⟨h33, zh33, z⟩ := z
  refine c_putF S hG hH hS (ci := 0) (k := 16) rfl in_X0 tyX0 tyX0_ok nmX0 (Nat.le_of_ble_eq_true rfl) q496 (fun _ y => y) rfl hnm rfl (ty := .array (.object "FourOnOne$State")) rfl (nr_a _) (ft_a _) zh33 dX0_init_136 (fun H locs hH hS => ?_)
  refine lv_iconst (v := (0 : Int32)) hx hb dX0_init_139 (by decide) ?_
  refine lv_istore_n (lv' := [(1, .int (0 : Int32)), (0, va_rf (some a0))]) hx hb dX0_init_140 rfl hl (by decide) rfl (fun ls hl => ?_)
  exact wX0_init_141 S hr hlk hnm hG hRM FU h33 (0 : Int32) z _ _ hH hS _ (lv_sub hl [1, 0] rfl)
/-! FourOnOne.put(I)V -/
def fX0_put_3 (K : KE) (a0 : Nat) : Nat → HS → Int32 → Int32 → Option (HS)
  | 0, _, _, _ => none
  | n + 1, h, a1, a2 =>
    if a2 < 0 then
      some h
    else
    (gR K h (some a0) 0 1).bind fun v2 =>
    (gI K h (some a0) 0 2).bind fun v3 =>
    (pV h (some a0) 0 2 (.int (v3 + (1 : Int32)))).bind fun h4 =>
    (sC h4 v2 3 v3 (vp_nar .byte ((a1 >>> (a2 &&& 31)).toInt8.toInt32))).bind fun h5 =>
    fX0_put_3 K a0 n h5 a1 (a2 + (-8 : Int32))
def fX0_put (K : KE) (h : HS) (a0 : Nat) (a1 : Int32) : Option (HS) :=
  fX0_put_3 K a0 FU h a1 (24 : Int32)
set_option maxHeartbeats 4000000 in
theorem wX0_put_3 {p : Program} {l : Launch} {e : Env} {s : State} {m : MethodId} {args : Array Value} {below : List Frame} {meth : Method} {c : Code} {A : Nat → Prop} {D : va_G} {ac : Nat → ClassId} {K : KE} {h0 : HS} {a0 : Nat} (S : CallFix p m c cX0_put 3 s args lw_all RX0) (hr : meth.sig.returnType = none) (hlk : meth.locks = false) (hnm : meth.name = "put") (hG : GK A D ac K s) (hRM : RM K s (rmC 1 0 K h0)) {x : HS} : ∀ (n : Nat) (h : HS) (a1 : Int32) (a2 : Int32), fX0_put_3 K a0 n h a1 a2 = some x → cGo p l e (rmC 1 0 K h0) s m args below meth c A D ac K (MQ below (cQv A D ac K x) args s (K.2.2.1 - h0.2.1) (K.2.2.2 - h0.2.2) A) 3 3 [(0, va_rf (some a0)), (1, .int a1), (2, .int a2)] [] h := by
  obtain ⟨hx, hb, hml, hown, hts⟩ := id S
  intro n
  induction n with
  | zero => intro h a1 a2 z; cases z
  | succ n ih =>
    intro h a1 a2 z H locs hH hS ls hl
    rw [fX0_put_3] at z
    refine lv_iload_n hx hb dX0_put_3 rfl (lv_at hl 2 rfl) ?_
    refine lv_if_lt (tgt := 33) hx hb dX0_put_4 (by decide) (fun c1 => ?_) (fun c1 => ?_)
    · replace z := it c1 z
      exact c_vret S hr hlk hH hS z dX0_put_33
    replace z := ie c1 z
    refine c_aload_n hx hb dX0_put_7 rfl (lv_at hl 0 rfl) ?_
    replace z := ob z
    obtain ⟨v2, zv2, z⟩ := z
    obtain ⟨fsv2, yv2, zv2⟩ := gR_e zv2
    refine c_get S hG hH (ci := 0) (k := 1) rfl in_X0 (Nat.le_of_ble_eq_true rfl) q480 (fun _ y => y) yv2 zv2 dX0_put_8 ?_
    refine c_aload_n hx hb dX0_put_11 rfl (lv_at hl 0 rfl) ?_
    refine lv_dup hx hb dX0_put_12 rfl ?_
    replace z := ob z
    obtain ⟨v3, zv3, z⟩ := z
    obtain ⟨fsv3, yv3, zv3⟩ := gI_e zv3
    refine c_get S hG hH (ci := 0) (k := 2) rfl in_X0 (Nat.le_of_ble_eq_true rfl) q481 (fun _ y => y) yv3 zv3 dX0_put_13 ?_
    refine lv_dup_x1 hx hb dX0_put_16 rfl rfl ?_
    refine lv_iconst (v := (1 : Int32)) hx hb dX0_put_17 (by decide) ?_
    refine lv_iadd hx hb dX0_put_18 ?_
    replace z := ob z
    obtain ⟨h4, zh4, z⟩ := z
    refine c_put S hG hH hS (ci := 0) (k := 2) rfl in_X0 tyX0 tyX0_ok nmX0 (Nat.le_of_ble_eq_true rfl) q481 (fun _ y => y) rfl (ty := .int) rfl rfl rfl zh4 dX0_put_19 (fun H locs hH hS => ?_)
    refine lv_iload_n hx hb dX0_put_22 rfl (lv_at hl 1 rfl) ?_
    refine lv_iload_n hx hb dX0_put_23 rfl (lv_at hl 2 rfl) ?_
    refine lv_ishr hx hb dX0_put_24 ?_
    refine lv_i2b (v := (a1 >>> (a2 &&& 31)).toInt8.toInt32) hx hb dX0_put_25 rfl ?_
    replace z := ob z
    obtain ⟨h5, zh5, z⟩ := z
    refine c_bast S hG hH hS zh5 dX0_put_26 (fun H locs hH hS => ?_)
    refine lv_iinc (v := (a2 + (-8 : Int32))) (lv' := [(2, .int (a2 + (-8 : Int32))), (0, va_rf (some a0)), (1, .int a1)]) hx hb dX0_put_27 hl (k := 2) rfl rfl (by decide) rfl (fun ls hl => ?_)
    refine lv_goto (tgt := 3) hx hb dX0_put_30 (by decide) ?_
    exact ih h5 a1 (a2 + (-8 : Int32)) z _ _ hH hS _ (lv_sub hl [1, 2, 0] rfl)
set_option maxHeartbeats 4000000 in
theorem metX0_put {l : Launch} {A : Nat → Prop} {D : va_G} {ac : Nat → ClassId} {K : KE} {h : HS} {a0 : Nat} {a1 : Int32} {x : HS} (z : fX0_put K h a0 a1 = some x) : Met l yX0_put (ws_ yX0_put cX0_put 3 (none)) (rmC 1 0 K h) (cP A D ac K h [va_rf (some a0), .int a1]) (cQv A D ac K x) (K.2.2.1 - h.2.1) (K.2.2.2 - h.2.2) A := by
  refine c_entry (plainFor_of_name (by decide)) (Nat.le_of_ble_eq_true rfl) ?_
  intro p e s m below meth c S hr hlk hnm hG hRM hH hS ls hl
  replace hl : lv_has ls 3 [(0, va_rf (some a0)), (1, .int a1)] := hl
  replace hnm : meth.name = "put" := hnm
  replace S : CallFix p m c cX0_put 3 s _ lw_all RX0 := S
  obtain ⟨hx, hb, hml, hown, hts⟩ := id S
  unfold fX0_put at z
  refine lv_bipush (v := (24 : Int32)) hx hb dX0_put_0 (by decide) ?_
  refine lv_istore_n (lv' := [(2, .int (24 : Int32)), (0, va_rf (some a0)), (1, .int a1)]) hx hb dX0_put_2 rfl hl (by decide) rfl (fun ls hl => ?_)
  exact wX0_put_3 S hr hlk hnm hG hRM FU h a1 (24 : Int32) z _ _ hH hS _ (lv_sub hl [1, 2, 0] rfl)
/-! FourOnOne.refuses(I)I -/
def fX0_refuses (K : KE) (h : HS) (a0 : Nat) (a1 : Int32) : Option (HS × Int32) :=
  (gR K h (some a0) 0 8).bind fun v1 =>
  (cI K h v1 0 a1).bind fun v2 =>
  (sC h v1 0 a1 (v2 + (1 : Int32))).bind fun h3 =>
  some (h3, (-1 : Int32))
set_option maxHeartbeats 4000000 in
theorem metX0_refuses {l : Launch} {A : Nat → Prop} {D : va_G} {ac : Nat → ClassId} {K : KE} {h : HS} {a0 : Nat} {a1 : Int32} {x : HS × Int32} (z : fX0_refuses K h a0 a1 = some x) : Met l yX0_refuses (ws_ yX0_refuses cX0_refuses 2 (some .int)) (rmC 1 0 K h) (cP A D ac K h [va_rf (some a0), .int a1]) (cQi A D ac K x) (K.2.2.1 - h.2.1) (K.2.2.2 - h.2.2) A := by
  refine c_entry (plainFor_of_name (by decide)) (Nat.le_of_ble_eq_true rfl) ?_
  intro p e s m below meth c S hr hlk hnm hG hRM hH hS ls hl
  replace hl : lv_has ls 2 [(0, va_rf (some a0)), (1, .int a1)] := hl
  replace hnm : meth.name = "refuses" := hnm
  replace S : CallFix p m c cX0_refuses 2 s _ lw_all RX0 := S
  obtain ⟨hx, hb, hml, hown, hts⟩ := id S
  unfold fX0_refuses at z
  refine c_aload_n hx hb dX0_refuses_0 rfl (lv_at hl 0 rfl) ?_
  replace z := ob z
  obtain ⟨v1, zv1, z⟩ := z
  obtain ⟨fsv1, yv1, zv1⟩ := gR_e zv1
  refine c_get S hG hH (ci := 0) (k := 8) rfl in_X0 (Nat.le_of_ble_eq_true rfl) q488 (fun _ y => y) yv1 zv1 dX0_refuses_1 ?_
  refine lv_iload_n hx hb dX0_refuses_4 rfl (lv_at hl 1 rfl) ?_
  refine lv_dup2_11 hx hb dX0_refuses_5 rfl (ct_r _) ?_
  replace z := ob z
  obtain ⟨v2, zv2, z⟩ := z
  refine c_iald S hG hH zv2 dX0_refuses_6 ?_
  refine lv_iconst (v := (1 : Int32)) hx hb dX0_refuses_7 (by decide) ?_
  refine lv_iadd hx hb dX0_refuses_8 ?_
  replace z := ob z
  obtain ⟨h3, zh3, z⟩ := z
  refine c_iast S hG hH hS zh3 dX0_refuses_9 (fun H locs hH hS => ?_)
  refine lv_iconst (v := (-1 : Int32)) hx hb dX0_refuses_10 (by decide) ?_
  exact c_iret S hr hlk rfl hH hS z dX0_refuses_11
/-! FourOnOne.feed(IIIII)I -/
def fX0_feed (K : KE) (h : HS) (a0 : Nat) (a1 : Int32) (a2 : Int32) (a3 : Int32) (a4 : Int32) (a5 : Int32) : Option (HS × Int32) :=
  (gI K h (some a0) 0 2).bind fun v1 =>
  if (v1 + (20 : Int32)) ≤ (1600 : Int32) then
    (rcv K h (some a0) 0).bind fun b3 =>
    (fX0_put K h b3 a1).bind fun x4 =>
    (rcv K x4 (some a0) 0).bind fun b5 =>
    (fX0_put K x4 b5 a2).bind fun x6 =>
    (rcv K x6 (some a0) 0).bind fun b7 =>
    (fX0_put K x6 b7 a3).bind fun x8 =>
    (rcv K x8 (some a0) 0).bind fun b9 =>
    (fX0_put K x8 b9 a4).bind fun x10 =>
    (rcv K x10 (some a0) 0).bind fun b11 =>
    (fX0_put K x10 b11 a5).bind fun x12 =>
    (gI K x12 (some a0) 0 2).bind fun v13 =>
    some (x12, v13)
  else
  (rcv K h (some a0) 0).bind fun b14 =>
  (fX0_refuses K h b14 (0 : Int32)).bind fun x15 =>
  some (x15.1, x15.2)
set_option maxHeartbeats 4000000 in
theorem metX0_feed {l : Launch} {A : Nat → Prop} {D : va_G} {ac : Nat → ClassId} {K : KE} {h : HS} {a0 : Nat} {a1 : Int32} {a2 : Int32} {a3 : Int32} {a4 : Int32} {a5 : Int32} {x : HS × Int32} (z : fX0_feed K h a0 a1 a2 a3 a4 a5 = some x) : Met l yX0_feed (ws_ yX0_feed cX0_feed 6 (some .int)) (rmC 2 22 K h) (cP A D ac K h [va_rf (some a0), .int a1, .int a2, .int a3, .int a4, .int a5]) (cQi A D ac K x) (K.2.2.1 - h.2.1) (K.2.2.2 - h.2.2) A := by
  refine c_entry (plainFor_of_name (by decide)) (Nat.le_of_ble_eq_true rfl) ?_
  intro p e s m below meth c S hr hlk hnm hG hRM hH hS ls hl
  replace hl : lv_has ls 6 [(0, va_rf (some a0)), (1, .int a1), (2, .int a2), (3, .int a3), (4, .int a4), (5, .int a5)] := hl
  replace hnm : meth.name = "feed" := hnm
  replace S : CallFix p m c cX0_feed 6 s _ lw_all RX0 := S
  obtain ⟨hx, hb, hml, hown, hts⟩ := id S
  unfold fX0_feed at z
  refine c_aload_n hx hb dX0_feed_0 rfl (lv_at hl 0 rfl) ?_
  replace z := ob z
  obtain ⟨v1, zv1, z⟩ := z
  obtain ⟨fsv1, yv1, zv1⟩ := gI_e zv1
  refine c_get S hG hH (ci := 0) (k := 2) rfl in_X0 (Nat.le_of_ble_eq_true rfl) q481 (fun _ y => y) yv1 zv1 dX0_feed_1 ?_
  refine lv_bipush (v := (20 : Int32)) hx hb dX0_feed_4 (by decide) ?_
  refine lv_iadd hx hb dX0_feed_6 ?_
  refine lv_sipush (v := (1600 : Int32)) hx hb dX0_feed_7 (by decide) ?_
  refine lv_icmp_le (tgt := 19) hx hb dX0_feed_10 (by decide) (fun c2 => ?_) (fun c2 => ?_)
  rotate_left 1
  · replace z := ie c2 z
    refine c_aload_n hx hb dX0_feed_13 rfl (lv_at hl 0 rfl) ?_
    refine lv_iconst (v := (0 : Int32)) hx hb dX0_feed_14 (by decide) ?_
    replace z := ob z
    obtain ⟨b14, zb14, z⟩ := z
    obtain ⟨yb14, zb14⟩ := rcv_e zb14
    replace z := ob z
    obtain ⟨x15, zx15, z⟩ := z
    refine c_calli hH hS hRM (fun _ _ f1 f2 => va_runV (b := b14) (As := [.int (0 : Int32)]) (rest := []) S (metX0_refuses zx15) (cwV 1 hts (lw_V q552 q554 qs1 q167 q555) rfl rfl rfl (by decide +kernel) ⟨(Nat.le_of_ble_eq_true rfl), (Nat.le_of_ble_eq_true rfl)⟩) (c_preV hG hH hS (ci := 0) rfl zb14) rfl rfl hl.1 (by rw [yb14]; rfl) (lv_room (Nat.le_of_ble_eq_true rfl)) dX0_feed_15 ⟨f1, f2⟩) (fun H locs hH hS => ?_)
    exact c_iret S hr hlk rfl hH hS z dX0_feed_18
  replace z := it c2 z
  refine c_aload_n hx hb dX0_feed_19 rfl (lv_at hl 0 rfl) ?_
  refine lv_iload_n hx hb dX0_feed_20 rfl (lv_at hl 1 rfl) ?_
  replace z := ob z
  obtain ⟨b3, zb3, z⟩ := z
  obtain ⟨yb3, zb3⟩ := rcv_e zb3
  replace z := ob z
  obtain ⟨x4, zx4, z⟩ := z
  refine c_callv hH hS hRM (fun _ _ f1 f2 => va_runV (b := b3) (As := [.int a1]) (rest := []) S (metX0_put zx4) (cwV 1 hts (lw_V q556 q558 qs2 q167 q559) rfl rfl rfl (by decide +kernel) ⟨(Nat.le_of_ble_eq_true rfl), (Nat.le_of_ble_eq_true rfl)⟩) (c_preV hG hH hS (ci := 0) rfl zb3) rfl rfl hl.1 (by rw [yb3]; rfl) (lv_room (Nat.le_of_ble_eq_true rfl)) dX0_feed_21 ⟨f1, f2⟩) (fun H locs hH hS => ?_)
  refine c_aload_n hx hb dX0_feed_24 rfl (lv_at hl 0 rfl) ?_
  refine lv_iload_n hx hb dX0_feed_25 rfl (lv_at hl 2 rfl) ?_
  replace z := ob z
  obtain ⟨b5, zb5, z⟩ := z
  obtain ⟨yb5, zb5⟩ := rcv_e zb5
  replace z := ob z
  obtain ⟨x6, zx6, z⟩ := z
  refine c_callv hH hS hRM (fun _ _ f1 f2 => va_runV (b := b5) (As := [.int a2]) (rest := []) S (metX0_put zx6) (cwV 1 hts (lw_V q556 q558 qs2 q167 q559) rfl rfl rfl (by decide +kernel) ⟨(Nat.le_of_ble_eq_true rfl), (Nat.le_of_ble_eq_true rfl)⟩) (c_preV hG hH hS (ci := 0) rfl zb5) rfl rfl hl.1 (by rw [yb5]; rfl) (lv_room (Nat.le_of_ble_eq_true rfl)) dX0_feed_26 ⟨f1, f2⟩) (fun H locs hH hS => ?_)
  refine c_aload_n hx hb dX0_feed_29 rfl (lv_at hl 0 rfl) ?_
  refine lv_iload_n hx hb dX0_feed_30 rfl (lv_at hl 3 rfl) ?_
  replace z := ob z
  obtain ⟨b7, zb7, z⟩ := z
  obtain ⟨yb7, zb7⟩ := rcv_e zb7
  replace z := ob z
  obtain ⟨x8, zx8, z⟩ := z
  refine c_callv hH hS hRM (fun _ _ f1 f2 => va_runV (b := b7) (As := [.int a3]) (rest := []) S (metX0_put zx8) (cwV 1 hts (lw_V q556 q558 qs2 q167 q559) rfl rfl rfl (by decide +kernel) ⟨(Nat.le_of_ble_eq_true rfl), (Nat.le_of_ble_eq_true rfl)⟩) (c_preV hG hH hS (ci := 0) rfl zb7) rfl rfl hl.1 (by rw [yb7]; rfl) (lv_room (Nat.le_of_ble_eq_true rfl)) dX0_feed_31 ⟨f1, f2⟩) (fun H locs hH hS => ?_)
  refine c_aload_n hx hb dX0_feed_34 rfl (lv_at hl 0 rfl) ?_
  refine lv_iload hx hb dX0_feed_35 (lv_at hl 4 rfl) ?_
  replace z := ob z
  obtain ⟨b9, zb9, z⟩ := z
  obtain ⟨yb9, zb9⟩ := rcv_e zb9
  replace z := ob z
  obtain ⟨x10, zx10, z⟩ := z
  refine c_callv hH hS hRM (fun _ _ f1 f2 => va_runV (b := b9) (As := [.int a4]) (rest := []) S (metX0_put zx10) (cwV 1 hts (lw_V q556 q558 qs2 q167 q559) rfl rfl rfl (by decide +kernel) ⟨(Nat.le_of_ble_eq_true rfl), (Nat.le_of_ble_eq_true rfl)⟩) (c_preV hG hH hS (ci := 0) rfl zb9) rfl rfl hl.1 (by rw [yb9]; rfl) (lv_room (Nat.le_of_ble_eq_true rfl)) dX0_feed_37 ⟨f1, f2⟩) (fun H locs hH hS => ?_)
  refine c_aload_n hx hb dX0_feed_40 rfl (lv_at hl 0 rfl) ?_
  refine lv_iload hx hb dX0_feed_41 (lv_at hl 5 rfl) ?_
  replace z := ob z
  obtain ⟨b11, zb11, z⟩ := z
  obtain ⟨yb11, zb11⟩ := rcv_e zb11
  replace z := ob z
  obtain ⟨x12, zx12, z⟩ := z
  refine c_callv hH hS hRM (fun _ _ f1 f2 => va_runV (b := b11) (As := [.int a5]) (rest := []) S (metX0_put zx12) (cwV 1 hts (lw_V q556 q558 qs2 q167 q559) rfl rfl rfl (by decide +kernel) ⟨(Nat.le_of_ble_eq_true rfl), (Nat.le_of_ble_eq_true rfl)⟩) (c_preV hG hH hS (ci := 0) rfl zb11) rfl rfl hl.1 (by rw [yb11]; rfl) (lv_room (Nat.le_of_ble_eq_true rfl)) dX0_feed_43 ⟨f1, f2⟩) (fun H locs hH hS => ?_)
  refine c_aload_n hx hb dX0_feed_46 rfl (lv_at hl 0 rfl) ?_
  replace z := ob z
  obtain ⟨v13, zv13, z⟩ := z
  obtain ⟨fsv13, yv13, zv13⟩ := gI_e zv13
  refine c_get S hG hH (ci := 0) (k := 2) rfl in_X0 (Nat.le_of_ble_eq_true rfl) q481 (fun _ y => y) yv13 zv13 dX0_feed_47 ?_
  exact c_iret S hr hlk rfl hH hS z dX0_feed_50
/-! FourOnOne.end(I)Z -/
def fX0_end_12 (K : KE) (a0 : Nat) (h : HS) : Option (HS × Int32) :=
  (rcv K h (some a0) 0).bind fun b1 =>
  (fX0_refuses K h b1 (0 : Int32)).bind fun x2 =>
  if x2.2 < 0 then
    some (x2.1, (0 : Int32))
  else
  some (x2.1, (1 : Int32))
def fX0_end (K : KE) (h : HS) (a0 : Nat) (a1 : Int32) : Option (HS × Int32) :=
  if a1 < 0 then
    fX0_end_12 K a0 h
  else
  (gI K h (some a0) 0 2).bind fun v2 =>
  if a1 ≤ v2 then
    (pV h (some a0) 0 2 (.int a1)).bind fun h4 =>
    some (h4, (1 : Int32))
  else
  fX0_end_12 K a0 h
set_option maxHeartbeats 4000000 in
theorem wX0_end_12 {p : Program} {l : Launch} {e : Env} {s : State} {m : MethodId} {args : Array Value} {below : List Frame} {meth : Method} {c : Code} {A : Nat → Prop} {D : va_G} {ac : Nat → ClassId} {K : KE} {h0 : HS} {a0 : Nat} (S : CallFix p m c cX0_end 2 s args lw_all RX0) (hr : meth.sig.returnType = some .boolean) (hlk : meth.locks = false) (hnm : meth.name = "end") (hG : GK A D ac K s) (hRM : RM K s (rmC 2 21 K h0)) {x : HS × Int32} : ∀ (h : HS), fX0_end_12 K a0 h = some x → cGo p l e (rmC 2 21 K h0) s m args below meth c A D ac K (MQ below (cQi A D ac K x) args s (K.2.2.1 - h0.2.1) (K.2.2.2 - h0.2.2) A) 2 12 [(0, va_rf (some a0))] [] h := by
  obtain ⟨hx, hb, hml, hown, hts⟩ := id S
  intro h z H locs hH hS ls hl
  unfold fX0_end_12 at z
  refine c_aload_n hx hb dX0_end_12 rfl (lv_at hl 0 rfl) ?_
  refine lv_iconst (v := (0 : Int32)) hx hb dX0_end_13 (by decide) ?_
  replace z := ob z
  obtain ⟨b1, zb1, z⟩ := z
  obtain ⟨yb1, zb1⟩ := rcv_e zb1
  replace z := ob z
  obtain ⟨x2, zx2, z⟩ := z
  refine c_calli hH hS hRM (fun _ _ f1 f2 => va_runV (b := b1) (As := [.int (0 : Int32)]) (rest := []) S (metX0_refuses zx2) (cwV 1 hts (lw_V q552 q554 qs1 q167 q555) rfl rfl rfl (by decide +kernel) ⟨(Nat.le_of_ble_eq_true rfl), (Nat.le_of_ble_eq_true rfl)⟩) (c_preV hG hH hS (ci := 0) rfl zb1) rfl rfl hl.1 (by rw [yb1]; rfl) (lv_room (Nat.le_of_ble_eq_true rfl)) dX0_end_14 ⟨f1, f2⟩) (fun H locs hH hS => ?_)
  refine lv_if_lt (tgt := 24) hx hb dX0_end_17 (by decide) (fun c3 => ?_) (fun c3 => ?_)
  · replace z := it c3 z
    refine lv_iconst (v := (0 : Int32)) hx hb dX0_end_24 (by decide) ?_
    exact c_iret S hr hlk rfl hH hS z dX0_end_25
  replace z := ie c3 z
  refine lv_iconst (v := (1 : Int32)) hx hb dX0_end_20 (by decide) ?_
  refine lv_goto (tgt := 25) hx hb dX0_end_21 (by decide) ?_
  exact c_iret S hr hlk rfl hH hS z dX0_end_25
set_option maxHeartbeats 4000000 in
theorem metX0_end {l : Launch} {A : Nat → Prop} {D : va_G} {ac : Nat → ClassId} {K : KE} {h : HS} {a0 : Nat} {a1 : Int32} {x : HS × Int32} (z : fX0_end K h a0 a1 = some x) : Met l yX0_end (ws_ yX0_end cX0_end 2 (some .boolean)) (rmC 2 21 K h) (cP A D ac K h [va_rf (some a0), .int a1]) (cQi A D ac K x) (K.2.2.1 - h.2.1) (K.2.2.2 - h.2.2) A := by
  refine c_entry (plainFor_of_name (by decide)) (Nat.le_of_ble_eq_true rfl) ?_
  intro p e s m below meth c S hr hlk hnm hG hRM hH hS ls hl
  replace hl : lv_has ls 2 [(0, va_rf (some a0)), (1, .int a1)] := hl
  replace hnm : meth.name = "end" := hnm
  replace S : CallFix p m c cX0_end 2 s _ lw_all RX0 := S
  obtain ⟨hx, hb, hml, hown, hts⟩ := id S
  unfold fX0_end at z
  refine lv_iload_n hx hb dX0_end_0 rfl (lv_at hl 1 rfl) ?_
  refine lv_if_lt (tgt := 12) hx hb dX0_end_1 (by decide) (fun c1 => ?_) (fun c1 => ?_)
  · replace z := it c1 z
    exact wX0_end_12 S hr hlk hnm hG hRM h z _ _ hH hS _ (lv_sub hl [0] rfl)
  replace z := ie c1 z
  refine lv_iload_n hx hb dX0_end_4 rfl (lv_at hl 1 rfl) ?_
  refine c_aload_n hx hb dX0_end_5 rfl (lv_at hl 0 rfl) ?_
  replace z := ob z
  obtain ⟨v2, zv2, z⟩ := z
  obtain ⟨fsv2, yv2, zv2⟩ := gI_e zv2
  refine c_get S hG hH (ci := 0) (k := 2) rfl in_X0 (Nat.le_of_ble_eq_true rfl) q481 (fun _ y => y) yv2 zv2 dX0_end_6 ?_
  refine lv_icmp_le (tgt := 26) hx hb dX0_end_9 (by decide) (fun c3 => ?_) (fun c3 => ?_)
  rotate_left 1
  · replace z := ie c3 z
    exact wX0_end_12 S hr hlk hnm hG hRM h z _ _ hH hS _ (lv_sub hl [0] rfl)
  replace z := it c3 z
  refine c_aload_n hx hb dX0_end_26 rfl (lv_at hl 0 rfl) ?_
  refine lv_iload_n hx hb dX0_end_27 rfl (lv_at hl 1 rfl) ?_
  replace z := ob z
  obtain ⟨h4, zh4, z⟩ := z
  refine c_put S hG hH hS (ci := 0) (k := 2) rfl in_X0 tyX0 tyX0_ok nmX0 (Nat.le_of_ble_eq_true rfl) q481 (fun _ y => y) rfl (ty := .int) rfl rfl rfl zh4 dX0_end_28 (fun H locs hH hS => ?_)
  refine lv_iconst (v := (1 : Int32)) hx hb dX0_end_31 (by decide) ?_
  exact c_iret S hr hlk rfl hH hS z dX0_end_32
/-! FourOnOne.taken()I -/
def fX0_taken (K : KE) (h : HS) (a0 : Nat) : Option (HS × Int32) :=
  (gI K h (some a0) 0 2).bind fun v1 =>
  (pV h (some a0) 0 2 (.int (0 : Int32))).bind fun h2 =>
  some (h2, v1)
set_option maxHeartbeats 4000000 in
theorem metX0_taken {l : Launch} {A : Nat → Prop} {D : va_G} {ac : Nat → ClassId} {K : KE} {h : HS} {a0 : Nat} {x : HS × Int32} (z : fX0_taken K h a0 = some x) : Met l yX0_taken (ws_ yX0_taken cX0_taken 2 (some .int)) (rmC 1 0 K h) (cP A D ac K h [va_rf (some a0)]) (cQi A D ac K x) (K.2.2.1 - h.2.1) (K.2.2.2 - h.2.2) A := by
  refine c_entry (plainFor_of_name (by decide)) (Nat.le_of_ble_eq_true rfl) ?_
  intro p e s m below meth c S hr hlk hnm hG hRM hH hS ls hl
  replace hl : lv_has ls 2 [(0, va_rf (some a0))] := hl
  replace hnm : meth.name = "taken" := hnm
  replace S : CallFix p m c cX0_taken 2 s _ lw_all RX0 := S
  obtain ⟨hx, hb, hml, hown, hts⟩ := id S
  unfold fX0_taken at z
  refine c_aload_n hx hb dX0_taken_0 rfl (lv_at hl 0 rfl) ?_
  replace z := ob z
  obtain ⟨v1, zv1, z⟩ := z
  obtain ⟨fsv1, yv1, zv1⟩ := gI_e zv1
  refine c_get S hG hH (ci := 0) (k := 2) rfl in_X0 (Nat.le_of_ble_eq_true rfl) q481 (fun _ y => y) yv1 zv1 dX0_taken_1 ?_
  refine lv_istore_n (lv' := [(1, .int v1), (0, va_rf (some a0))]) hx hb dX0_taken_4 rfl hl (by decide) rfl (fun ls hl => ?_)
  refine c_aload_n hx hb dX0_taken_5 rfl (lv_at hl 1 rfl) ?_
  refine lv_iconst (v := (0 : Int32)) hx hb dX0_taken_6 (by decide) ?_
  replace z := ob z
  obtain ⟨h2, zh2, z⟩ := z
  refine c_put S hG hH hS (ci := 0) (k := 2) rfl in_X0 tyX0 tyX0_ok nmX0 (Nat.le_of_ble_eq_true rfl) q481 (fun _ y => y) rfl (ty := .int) rfl rfl rfl zh2 dX0_taken_7 (fun H locs hH hS => ?_)
  refine lv_iload_n hx hb dX0_taken_10 rfl (lv_at hl 0 rfl) ?_
  exact c_iret S hr hlk rfl hH hS z dX0_taken_11
/-! FourOnOne$Reader.byteAt(I)I -/
def fX2_byteAt (K : KE) (h : HS) (a0 : Nat) (a1 : Int32) : Option (Int32) :=
  if a1 < 0 then
    some (-1 : Int32)
  else
  (gI K h (some a0) 2 1).bind fun v2 =>
  if v2 ≤ a1 then
    some (-1 : Int32)
  else
  (gR K h (some a0) 2 7).bind fun v4 =>
  (gR K h v4 0 1).bind fun v5 =>
  (cI K h v5 3 a1).bind fun v6 =>
  some (v6 &&& (255 : Int32))
set_option maxHeartbeats 4000000 in
theorem metX2_byteAt {l : Launch} {A : Nat → Prop} {D : va_G} {ac : Nat → ClassId} {K : KE} {h : HS} {a0 : Nat} {a1 : Int32} {x : Int32} (z : fX2_byteAt K h a0 a1 = some x) : Met l yX2_byteAt (ws_ yX2_byteAt cX2_byteAt 2 (some .int)) (rmC 1 0 K h) (cP A D ac K h [va_rf (some a0), .int a1]) (cQi A D ac K (h, x)) (K.2.2.1 - h.2.1) (K.2.2.2 - h.2.2) A := by
  refine c_entry (plainFor_of_name (by decide)) (Nat.le_of_ble_eq_true rfl) ?_
  intro p e s m below meth c S hr hlk hnm hG hRM hH hS ls hl
  replace hl : lv_has ls 2 [(0, va_rf (some a0)), (1, .int a1)] := hl
  replace hnm : meth.name = "byteAt" := hnm
  replace S : CallFix p m c cX2_byteAt 2 s _ lw_all RX2 := S
  obtain ⟨hx, hb, hml, hown, hts⟩ := id S
  unfold fX2_byteAt at z
  refine lv_iload_n hx hb dX2_byteAt_0 rfl (lv_at hl 1 rfl) ?_
  refine lv_if_lt (tgt := 28) hx hb dX2_byteAt_1 (by decide) (fun c1 => ?_) (fun c1 => ?_)
  · replace z := it c1 z
    refine lv_iconst (v := (-1 : Int32)) hx hb dX2_byteAt_28 (by decide) ?_
    exact c_iret' S hr hlk rfl hH hS z dX2_byteAt_29
  replace z := ie c1 z
  refine lv_iload_n hx hb dX2_byteAt_4 rfl (lv_at hl 1 rfl) ?_
  refine c_aload_n hx hb dX2_byteAt_5 rfl (lv_at hl 0 rfl) ?_
  replace z := ob z
  obtain ⟨v2, zv2, z⟩ := z
  obtain ⟨fsv2, yv2, zv2⟩ := gI_e zv2
  refine c_get S hG hH (ci := 2) (k := 1) rfl in_X2 (Nat.le_of_ble_eq_true rfl) q383 (fun _ y => y) yv2 zv2 dX2_byteAt_6 ?_
  refine lv_icmp_ge (tgt := 28) hx hb dX2_byteAt_9 (by decide) (fun c3 => ?_) (fun c3 => ?_)
  · replace z := it c3 z
    refine lv_iconst (v := (-1 : Int32)) hx hb dX2_byteAt_28 (by decide) ?_
    exact c_iret' S hr hlk rfl hH hS z dX2_byteAt_29
  replace z := ie c3 z
  refine c_aload_n hx hb dX2_byteAt_12 rfl (lv_at hl 0 rfl) ?_
  replace z := ob z
  obtain ⟨v4, zv4, z⟩ := z
  obtain ⟨fsv4, yv4, zv4⟩ := gR_e zv4
  refine c_get S hG hH (ci := 2) (k := 7) rfl in_X2 (Nat.le_of_ble_eq_true rfl) q389 (fun _ y => y) yv4 zv4 dX2_byteAt_13 ?_
  replace z := ob z
  obtain ⟨v5, zv5, z⟩ := z
  obtain ⟨fsv5, yv5, zv5⟩ := gR_e zv5
  refine c_getN S hG hH (ci := 0) (k := 1) rfl in_X0 (Nat.le_of_ble_eq_true rfl) q479 (fun _ y => y) yv5 zv5 dX2_byteAt_16 ?_
  refine lv_iload_n hx hb dX2_byteAt_19 rfl (lv_at hl 1 rfl) ?_
  replace z := ob z
  obtain ⟨v6, zv6, z⟩ := z
  refine c_bald S hG hH zv6 dX2_byteAt_20 ?_
  refine lv_sipush (v := (255 : Int32)) hx hb dX2_byteAt_21 (by decide) ?_
  refine lv_iand hx hb dX2_byteAt_24 ?_
  refine lv_goto (tgt := 29) hx hb dX2_byteAt_25 (by decide) ?_
  exact c_iret' S hr hlk rfl hH hS z dX2_byteAt_29
/-! FourOnOne$Reader.here()I -/
def fX2_here_26 (K : KE) (a0 : Nat) (k0 : HS → Option (HS × Int32)) (h : HS) : Option (HS × Int32) :=
  (gI K h (some a0) 2 2).bind fun v1 =>
  (pV h (some a0) 2 2 (.int (v1 + (1 : Int32)))).bind fun h2 =>
  k0 h2
def fX2_here_0 (K : KE) (a0 : Nat) : Nat → HS → Option (HS × Int32)
  | 0, _ => none
  | n + 1, h =>
    (gI K h (some a0) 2 2).bind fun v1 =>
    (rcv K h (some a0) 2).bind fun b2 =>
    (fX2_byteAt K h b2 v1).bind fun x3 =>
    if x3 = (32 : Int32) then
      fX2_here_26 K a0 (fun h' => fX2_here_0 K a0 n h') h
    else
    (gI K h (some a0) 2 2).bind fun v5 =>
    (rcv K h (some a0) 2).bind fun b6 =>
    (fX2_byteAt K h b6 v5).bind fun x7 =>
    if x7 = (10 : Int32) then
      fX2_here_26 K a0 (fun h' => fX2_here_0 K a0 n h') h
    else
    (gI K h (some a0) 2 2).bind fun v9 =>
    (rcv K h (some a0) 2).bind fun b10 =>
    (fX2_byteAt K h b10 v9).bind fun x11 =>
    some (h, x11)
def fX2_here (K : KE) (h : HS) (a0 : Nat) : Option (HS × Int32) :=
  fX2_here_0 K a0 FU h
set_option maxHeartbeats 4000000 in
theorem wX2_here_26 {p : Program} {l : Launch} {e : Env} {s : State} {m : MethodId} {args : Array Value} {below : List Frame} {meth : Method} {c : Code} {A : Nat → Prop} {D : va_G} {ac : Nat → ClassId} {K : KE} {h0 : HS} {a0 : Nat} (S : CallFix p m c cX2_here 1 s args lw_all RX2) (hr : meth.sig.returnType = some .int) (hlk : meth.locks = false) (hnm : meth.name = "here") (hG : GK A D ac K s) (hRM : RM K s (rmC 2 21 K h0)) {x : HS × Int32} {k0 : HS → Option (HS × Int32)} (hk0 : ∀ h, k0 h = some x → cGo p l e (rmC 2 21 K h0) s m args below meth c A D ac K (MQ below (cQi A D ac K x) args s (K.2.2.1 - h0.2.1) (K.2.2.2 - h0.2.2) A) 1 0 [(0, va_rf (some a0))] [] h) : ∀ (h : HS), fX2_here_26 K a0 k0 h = some x → cGo p l e (rmC 2 21 K h0) s m args below meth c A D ac K (MQ below (cQi A D ac K x) args s (K.2.2.1 - h0.2.1) (K.2.2.2 - h0.2.2) A) 1 26 [(0, va_rf (some a0))] [] h := by
  obtain ⟨hx, hb, hml, hown, hts⟩ := id S
  intro h z H locs hH hS ls hl
  unfold fX2_here_26 at z
  refine c_aload_n hx hb dX2_here_26 rfl (lv_at hl 0 rfl) ?_
  refine lv_dup hx hb dX2_here_27 rfl ?_
  replace z := ob z
  obtain ⟨v1, zv1, z⟩ := z
  obtain ⟨fsv1, yv1, zv1⟩ := gI_e zv1
  refine c_get S hG hH (ci := 2) (k := 2) rfl in_X2 (Nat.le_of_ble_eq_true rfl) q384 (fun _ y => y) yv1 zv1 dX2_here_28 ?_
  refine lv_iconst (v := (1 : Int32)) hx hb dX2_here_31 (by decide) ?_
  refine lv_iadd hx hb dX2_here_32 ?_
  replace z := ob z
  obtain ⟨h2, zh2, z⟩ := z
  refine c_put S hG hH hS (ci := 2) (k := 2) rfl in_X2 tyX2 tyX2_ok nmX2 (Nat.le_of_ble_eq_true rfl) q384 (fun _ y => y) rfl (ty := .int) rfl rfl rfl zh2 dX2_here_33 (fun H locs hH hS => ?_)
  refine lv_goto (tgt := 0) hx hb dX2_here_36 (by decide) ?_
  exact hk0 h2 z _ _ hH hS _ (lv_sub hl [0] rfl)
set_option maxHeartbeats 4000000 in
theorem wX2_here_0 {p : Program} {l : Launch} {e : Env} {s : State} {m : MethodId} {args : Array Value} {below : List Frame} {meth : Method} {c : Code} {A : Nat → Prop} {D : va_G} {ac : Nat → ClassId} {K : KE} {h0 : HS} {a0 : Nat} (S : CallFix p m c cX2_here 1 s args lw_all RX2) (hr : meth.sig.returnType = some .int) (hlk : meth.locks = false) (hnm : meth.name = "here") (hG : GK A D ac K s) (hRM : RM K s (rmC 2 21 K h0)) {x : HS × Int32} : ∀ (n : Nat) (h : HS), fX2_here_0 K a0 n h = some x → cGo p l e (rmC 2 21 K h0) s m args below meth c A D ac K (MQ below (cQi A D ac K x) args s (K.2.2.1 - h0.2.1) (K.2.2.2 - h0.2.2) A) 1 0 [(0, va_rf (some a0))] [] h := by
  obtain ⟨hx, hb, hml, hown, hts⟩ := id S
  intro n
  induction n with
  | zero => intro h z; cases z
  | succ n ih =>
    intro h z H locs hH hS ls hl
    rw [fX2_here_0] at z
    refine c_aload_n hx hb dX2_here_0 rfl (lv_at hl 0 rfl) ?_
    refine c_aload_n hx hb dX2_here_1 rfl (lv_at hl 0 rfl) ?_
    replace z := ob z
    obtain ⟨v1, zv1, z⟩ := z
    obtain ⟨fsv1, yv1, zv1⟩ := gI_e zv1
    refine c_get S hG hH (ci := 2) (k := 2) rfl in_X2 (Nat.le_of_ble_eq_true rfl) q384 (fun _ y => y) yv1 zv1 dX2_here_2 ?_
    replace z := ob z
    obtain ⟨b2, zb2, z⟩ := z
    obtain ⟨yb2, zb2⟩ := rcv_e zb2
    replace z := ob z
    obtain ⟨x3, zx3, z⟩ := z
    refine c_calli hH hS hRM (fun _ _ f1 f2 => va_runV (b := b2) (As := [.int v1]) (rest := []) S (metX2_byteAt zx3) (cwV 1 hts (lw_V q583 q585 qs5 q172 q586) rfl rfl rfl (by decide +kernel) ⟨(Nat.le_of_ble_eq_true rfl), (Nat.le_of_ble_eq_true rfl)⟩) (c_preV hG hH hS (ci := 2) rfl zb2) rfl rfl hl.1 (by rw [yb2]; rfl) (lv_room (Nat.le_of_ble_eq_true rfl)) dX2_here_5 ⟨f1, f2⟩) (fun H locs hH hS => ?_)
    refine lv_bipush (v := (32 : Int32)) hx hb dX2_here_8 (by decide) ?_
    refine lv_icmp_eq (tgt := 26) hx hb dX2_here_10 (by decide) (fun c4 => ?_) (fun c4 => ?_)
    · replace z := it c4 z
      exact wX2_here_26 S hr hlk hnm hG hRM ih h z _ _ hH hS _ (lv_sub hl [0] rfl)
    replace z := ie c4 z
    refine c_aload_n hx hb dX2_here_13 rfl (lv_at hl 0 rfl) ?_
    refine c_aload_n hx hb dX2_here_14 rfl (lv_at hl 0 rfl) ?_
    replace z := ob z
    obtain ⟨v5, zv5, z⟩ := z
    obtain ⟨fsv5, yv5, zv5⟩ := gI_e zv5
    refine c_get S hG hH (ci := 2) (k := 2) rfl in_X2 (Nat.le_of_ble_eq_true rfl) q384 (fun _ y => y) yv5 zv5 dX2_here_15 ?_
    replace z := ob z
    obtain ⟨b6, zb6, z⟩ := z
    obtain ⟨yb6, zb6⟩ := rcv_e zb6
    replace z := ob z
    obtain ⟨x7, zx7, z⟩ := z
    refine c_calli hH hS hRM (fun _ _ f1 f2 => va_runV (b := b6) (As := [.int v5]) (rest := []) S (metX2_byteAt zx7) (cwV 1 hts (lw_V q583 q585 qs5 q172 q586) rfl rfl rfl (by decide +kernel) ⟨(Nat.le_of_ble_eq_true rfl), (Nat.le_of_ble_eq_true rfl)⟩) (c_preV hG hH hS (ci := 2) rfl zb6) rfl rfl hl.1 (by rw [yb6]; rfl) (lv_room (Nat.le_of_ble_eq_true rfl)) dX2_here_18 ⟨f1, f2⟩) (fun H locs hH hS => ?_)
    refine lv_bipush (v := (10 : Int32)) hx hb dX2_here_21 (by decide) ?_
    refine lv_icmp_ne (tgt := 39) hx hb dX2_here_23 (by decide) (fun c8 => ?_) (fun c8 => ?_)
    rotate_left 1
    · replace z := it c8 z
      exact wX2_here_26 S hr hlk hnm hG hRM ih h z _ _ hH hS _ (lv_sub hl [0] rfl)
    replace z := ie c8 z
    refine c_aload_n hx hb dX2_here_39 rfl (lv_at hl 0 rfl) ?_
    refine c_aload_n hx hb dX2_here_40 rfl (lv_at hl 0 rfl) ?_
    replace z := ob z
    obtain ⟨v9, zv9, z⟩ := z
    obtain ⟨fsv9, yv9, zv9⟩ := gI_e zv9
    refine c_get S hG hH (ci := 2) (k := 2) rfl in_X2 (Nat.le_of_ble_eq_true rfl) q384 (fun _ y => y) yv9 zv9 dX2_here_41 ?_
    replace z := ob z
    obtain ⟨b10, zb10, z⟩ := z
    obtain ⟨yb10, zb10⟩ := rcv_e zb10
    replace z := ob z
    obtain ⟨x11, zx11, z⟩ := z
    refine c_calli hH hS hRM (fun _ _ f1 f2 => va_runV (b := b10) (As := [.int v9]) (rest := []) S (metX2_byteAt zx11) (cwV 1 hts (lw_V q583 q585 qs5 q172 q586) rfl rfl rfl (by decide +kernel) ⟨(Nat.le_of_ble_eq_true rfl), (Nat.le_of_ble_eq_true rfl)⟩) (c_preV hG hH hS (ci := 2) rfl zb10) rfl rfl hl.1 (by rw [yb10]; rfl) (lv_room (Nat.le_of_ble_eq_true rfl)) dX2_here_44 ⟨f1, f2⟩) (fun H locs hH hS => ?_)
    exact c_iret S hr hlk rfl hH hS z dX2_here_47
set_option maxHeartbeats 4000000 in
theorem metX2_here {l : Launch} {A : Nat → Prop} {D : va_G} {ac : Nat → ClassId} {K : KE} {h : HS} {a0 : Nat} {x : HS × Int32} (z : fX2_here K h a0 = some x) : Met l yX2_here (ws_ yX2_here cX2_here 1 (some .int)) (rmC 2 21 K h) (cP A D ac K h [va_rf (some a0)]) (cQi A D ac K x) (K.2.2.1 - h.2.1) (K.2.2.2 - h.2.2) A := by
  refine c_entry (plainFor_of_name (by decide)) (Nat.le_of_ble_eq_true rfl) ?_
  intro p e s m below meth c S hr hlk hnm hG hRM hH hS ls hl
  replace hl : lv_has ls 1 [(0, va_rf (some a0))] := hl
  replace hnm : meth.name = "here" := hnm
  replace S : CallFix p m c cX2_here 1 s _ lw_all RX2 := S
  obtain ⟨hx, hb, hml, hown, hts⟩ := id S
  unfold fX2_here at z
  exact wX2_here_0 S hr hlk hnm hG hRM FU h z _ _ hH hS _ (lv_sub hl [0] rfl)
/-! FourOnOne$Reader.wrong(II)LFourOnOne$Fault; -/
def fX2_wrong (K : KE) (h : HS) (a0 : Nat) (a1 : Int32) (a2 : Int32) : Option (HS × Option Nat) :=
  (gR K h (some a0) 2 0).bind fun v1 =>
  (pV h v1 3 6 (.int a1)).bind fun h2 =>
  (gR K h2 (some a0) 2 0).bind fun v3 =>
  (pV h2 v3 3 7 (.int a2)).bind fun h4 =>
  (gR K h4 (some a0) 2 0).bind fun v5 =>
  some (h4, v5)
set_option maxHeartbeats 4000000 in
theorem metX2_wrong {l : Launch} {A : Nat → Prop} {D : va_G} {ac : Nat → ClassId} {K : KE} {h : HS} {a0 : Nat} {a1 : Int32} {a2 : Int32} {x : HS × Option Nat} (z : fX2_wrong K h a0 a1 a2 = some x) : Met l yX2_wrong (ws_ yX2_wrong cX2_wrong 3 (some (.object "FourOnOne$Fault"))) (rmC 1 0 K h) (cP A D ac K h [va_rf (some a0), .int a1, .int a2]) (cQq A D ac K x) (K.2.2.1 - h.2.1) (K.2.2.2 - h.2.2) A := by
  refine c_entry (plainFor_of_name (by decide)) (Nat.le_of_ble_eq_true rfl) ?_
  intro p e s m below meth c S hr hlk hnm hG hRM hH hS ls hl
  replace hl : lv_has ls 3 [(0, va_rf (some a0)), (1, .int a1), (2, .int a2)] := hl
  replace hnm : meth.name = "wrong" := hnm
  replace S : CallFix p m c cX2_wrong 3 s _ lw_all RX2 := S
  obtain ⟨hx, hb, hml, hown, hts⟩ := id S
  unfold fX2_wrong at z
  refine c_aload_n hx hb dX2_wrong_0 rfl (lv_at hl 0 rfl) ?_
  replace z := ob z
  obtain ⟨v1, zv1, z⟩ := z
  obtain ⟨fsv1, yv1, zv1⟩ := gR_e zv1
  refine c_get S hG hH (ci := 2) (k := 0) rfl in_X2 (Nat.le_of_ble_eq_true rfl) q382 (fun _ y => y) yv1 zv1 dX2_wrong_1 ?_
  refine lv_iload_n hx hb dX2_wrong_4 rfl (lv_at hl 1 rfl) ?_
  replace z := ob z
  obtain ⟨h2, zh2, z⟩ := z
  refine c_putN S hG hH hS (ci := 3) (k := 6) rfl in_X3 tyX3 tyX3_ok nmX3 (Nat.le_of_ble_eq_true rfl) q360 (fun _ y => y) rfl (ty := .int) rfl rfl rfl zh2 dX2_wrong_5 (fun H locs hH hS => ?_)
  refine c_aload_n hx hb dX2_wrong_8 rfl (lv_at hl 0 rfl) ?_
  replace z := ob z
  obtain ⟨v3, zv3, z⟩ := z
  obtain ⟨fsv3, yv3, zv3⟩ := gR_e zv3
  refine c_get S hG hH (ci := 2) (k := 0) rfl in_X2 (Nat.le_of_ble_eq_true rfl) q382 (fun _ y => y) yv3 zv3 dX2_wrong_9 ?_
  refine lv_iload_n hx hb dX2_wrong_12 rfl (lv_at hl 2 rfl) ?_
  replace z := ob z
  obtain ⟨h4, zh4, z⟩ := z
  refine c_putN S hG hH hS (ci := 3) (k := 7) rfl in_X3 tyX3 tyX3_ok nmX3 (Nat.le_of_ble_eq_true rfl) q362 (fun _ y => y) rfl (ty := .int) rfl rfl rfl zh4 dX2_wrong_13 (fun H locs hH hS => ?_)
  refine c_aload_n hx hb dX2_wrong_16 rfl (lv_at hl 0 rfl) ?_
  replace z := ob z
  obtain ⟨v5, zv5, z⟩ := z
  obtain ⟨fsv5, yv5, zv5⟩ := gR_e zv5
  refine c_get S hG hH (ci := 2) (k := 0) rfl in_X2 (Nat.le_of_ble_eq_true rfl) q382 (fun _ y => y) yv5 zv5 dX2_wrong_17 ?_
  exact c_aret S hr (Or.inl ⟨_, rfl⟩) hlk hH hS z dX2_wrong_20
/-! FourOnOne.is(III)Z -/
def fX0_is (K : KE) (h : HS) (a0 : Int32) (a1 : Int32) (a2 : Int32) : Option (Int32) :=
  if a0 < a1 then
    some (0 : Int32)
  else
  if a2 < a0 then
    some (0 : Int32)
  else
  some (1 : Int32)
set_option maxHeartbeats 4000000 in
theorem metX0_is {l : Launch} {A : Nat → Prop} {D : va_G} {ac : Nat → ClassId} {K : KE} {h : HS} {a0 : Int32} {a1 : Int32} {a2 : Int32} {x : Int32} (z : fX0_is K h a0 a1 a2 = some x) : Met l yX0_is (ws_ yX0_is cX0_is 3 (some .boolean)) (rmC 1 0 K h) (cP A D ac K h [.int a0, .int a1, .int a2]) (cQi A D ac K (h, x)) (K.2.2.1 - h.2.1) (K.2.2.2 - h.2.2) A := by
  refine c_entry (plainFor_of_name (by decide)) (Nat.le_of_ble_eq_true rfl) ?_
  intro p e s m below meth c S hr hlk hnm hG hRM hH hS ls hl
  replace hl : lv_has ls 3 [(0, .int a0), (1, .int a1), (2, .int a2)] := hl
  replace hnm : meth.name = "is" := hnm
  replace S : CallFix p m c cX0_is 3 s _ lw_all RX0 := S
  obtain ⟨hx, hb, hml, hown, hts⟩ := id S
  unfold fX0_is at z
  refine lv_iload_n hx hb dX0_is_0 rfl (lv_at hl 0 rfl) ?_
  refine lv_iload_n hx hb dX0_is_1 rfl (lv_at hl 1 rfl) ?_
  refine lv_icmp_lt (tgt := 14) hx hb dX0_is_2 (by decide) (fun c1 => ?_) (fun c1 => ?_)
  · replace z := it c1 z
    refine lv_iconst (v := (0 : Int32)) hx hb dX0_is_14 (by decide) ?_
    exact c_iret' S hr hlk rfl hH hS z dX0_is_15
  replace z := ie c1 z
  refine lv_iload_n hx hb dX0_is_5 rfl (lv_at hl 0 rfl) ?_
  refine lv_iload_n hx hb dX0_is_6 rfl (lv_at hl 2 rfl) ?_
  refine lv_icmp_gt (tgt := 14) hx hb dX0_is_7 (by decide) (fun c2 => ?_) (fun c2 => ?_)
  · replace z := it c2 z
    refine lv_iconst (v := (0 : Int32)) hx hb dX0_is_14 (by decide) ?_
    exact c_iret' S hr hlk rfl hH hS z dX0_is_15
  replace z := ie c2 z
  refine lv_iconst (v := (1 : Int32)) hx hb dX0_is_10 (by decide) ?_
  refine lv_goto (tgt := 15) hx hb dX0_is_11 (by decide) ?_
  exact c_iret' S hr hlk rfl hH hS z dX0_is_15
/-! FourOnOne.isDigit(I)Z -/
def fX0_isDigit (K : KE) (h : HS) (a0 : Int32) : Option (Int32) :=
  if a0 < (48 : Int32) then
    some (0 : Int32)
  else
  if (57 : Int32) < a0 then
    some (0 : Int32)
  else
  some (1 : Int32)
set_option maxHeartbeats 4000000 in
theorem metX0_isDigit {l : Launch} {A : Nat → Prop} {D : va_G} {ac : Nat → ClassId} {K : KE} {h : HS} {a0 : Int32} {x : Int32} (z : fX0_isDigit K h a0 = some x) : Met l yX0_isDigit (ws_ yX0_isDigit cX0_isDigit 1 (some .boolean)) (rmC 1 0 K h) (cP A D ac K h [.int a0]) (cQi A D ac K (h, x)) (K.2.2.1 - h.2.1) (K.2.2.2 - h.2.2) A := by
  refine c_entry (plainFor_of_name (by decide)) (Nat.le_of_ble_eq_true rfl) ?_
  intro p e s m below meth c S hr hlk hnm hG hRM hH hS ls hl
  replace hl : lv_has ls 1 [(0, .int a0)] := hl
  replace hnm : meth.name = "isDigit" := hnm
  replace S : CallFix p m c cX0_isDigit 1 s _ lw_all RX0 := S
  obtain ⟨hx, hb, hml, hown, hts⟩ := id S
  unfold fX0_isDigit at z
  refine lv_iload_n hx hb dX0_isDigit_0 rfl (lv_at hl 0 rfl) ?_
  refine lv_bipush (v := (48 : Int32)) hx hb dX0_isDigit_1 (by decide) ?_
  refine lv_icmp_lt (tgt := 16) hx hb dX0_isDigit_3 (by decide) (fun c1 => ?_) (fun c1 => ?_)
  · replace z := it c1 z
    refine lv_iconst (v := (0 : Int32)) hx hb dX0_isDigit_16 (by decide) ?_
    exact c_iret' S hr hlk rfl hH hS z dX0_isDigit_17
  replace z := ie c1 z
  refine lv_iload_n hx hb dX0_isDigit_6 rfl (lv_at hl 0 rfl) ?_
  refine lv_bipush (v := (57 : Int32)) hx hb dX0_isDigit_7 (by decide) ?_
  refine lv_icmp_gt (tgt := 16) hx hb dX0_isDigit_9 (by decide) (fun c2 => ?_) (fun c2 => ?_)
  · replace z := it c2 z
    refine lv_iconst (v := (0 : Int32)) hx hb dX0_isDigit_16 (by decide) ?_
    exact c_iret' S hr hlk rfl hH hS z dX0_isDigit_17
  replace z := ie c2 z
  refine lv_iconst (v := (1 : Int32)) hx hb dX0_isDigit_12 (by decide) ?_
  refine lv_goto (tgt := 17) hx hb dX0_isDigit_13 (by decide) ?_
  exact c_iret' S hr hlk rfl hH hS z dX0_isDigit_17
/-! FourOnOne.isLetter(I)Z -/
def fX0_isLetter (K : KE) (h : HS) (a0 : Int32) : Option (Int32) :=
  if a0 < (97 : Int32) then
    some (0 : Int32)
  else
  if (122 : Int32) < a0 then
    some (0 : Int32)
  else
  some (1 : Int32)
set_option maxHeartbeats 4000000 in
theorem metX0_isLetter {l : Launch} {A : Nat → Prop} {D : va_G} {ac : Nat → ClassId} {K : KE} {h : HS} {a0 : Int32} {x : Int32} (z : fX0_isLetter K h a0 = some x) : Met l yX0_isLetter (ws_ yX0_isLetter cX0_isLetter 1 (some .boolean)) (rmC 1 0 K h) (cP A D ac K h [.int a0]) (cQi A D ac K (h, x)) (K.2.2.1 - h.2.1) (K.2.2.2 - h.2.2) A := by
  refine c_entry (plainFor_of_name (by decide)) (Nat.le_of_ble_eq_true rfl) ?_
  intro p e s m below meth c S hr hlk hnm hG hRM hH hS ls hl
  replace hl : lv_has ls 1 [(0, .int a0)] := hl
  replace hnm : meth.name = "isLetter" := hnm
  replace S : CallFix p m c cX0_isLetter 1 s _ lw_all RX0 := S
  obtain ⟨hx, hb, hml, hown, hts⟩ := id S
  unfold fX0_isLetter at z
  refine lv_iload_n hx hb dX0_isLetter_0 rfl (lv_at hl 0 rfl) ?_
  refine lv_bipush (v := (97 : Int32)) hx hb dX0_isLetter_1 (by decide) ?_
  refine lv_icmp_lt (tgt := 16) hx hb dX0_isLetter_3 (by decide) (fun c1 => ?_) (fun c1 => ?_)
  · replace z := it c1 z
    refine lv_iconst (v := (0 : Int32)) hx hb dX0_isLetter_16 (by decide) ?_
    exact c_iret' S hr hlk rfl hH hS z dX0_isLetter_17
  replace z := ie c1 z
  refine lv_iload_n hx hb dX0_isLetter_6 rfl (lv_at hl 0 rfl) ?_
  refine lv_bipush (v := (122 : Int32)) hx hb dX0_isLetter_7 (by decide) ?_
  refine lv_icmp_gt (tgt := 16) hx hb dX0_isLetter_9 (by decide) (fun c2 => ?_) (fun c2 => ?_)
  · replace z := it c2 z
    refine lv_iconst (v := (0 : Int32)) hx hb dX0_isLetter_16 (by decide) ?_
    exact c_iret' S hr hlk rfl hH hS z dX0_isLetter_17
  replace z := ie c2 z
  refine lv_iconst (v := (1 : Int32)) hx hb dX0_isLetter_12 (by decide) ?_
  refine lv_goto (tgt := 17) hx hb dX0_isLetter_13 (by decide) ?_
  exact c_iret' S hr hlk rfl hH hS z dX0_isLetter_17

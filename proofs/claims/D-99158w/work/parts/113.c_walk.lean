set_option maxRecDepth 100000
/-! FourOnOne$Chain.add(CLFourOnOne$Value;)V -/
def fX11_add (K : KE) (h : HS) (a0 : Nat) (a1 : Int32) (a2 : Option Nat) : Option (HS) :=
  (gR K h (some a0) 9 1).bind fun v1 =>
  (rcv K h v1 21).bind fun b2 =>
  (fJ15_append K h b2 a1).bind fun x3 =>
  (gR K x3.1 (some a0) 9 0).bind fun v4 =>
  (rcv K x3.1 v4 19).bind fun b5 =>
  (fJ2_add K x3.1 b5 a2).bind fun x6 =>
  some x6.1
set_option maxHeartbeats 4000000 in
theorem metX11_add {l : Launch} {A : Nat → Prop} {D : va_G} {ac : Nat → ClassId} {K : KE} {h : HS} {a0 : Nat} {a1 : Int32} {a2 : Option Nat} {x : HS} (z : fX11_add K h a0 a1 a2 = some x) : Met l yX11_add (ws_ yX11_add cX11_add 3 (none)) (rmC 8 191 K h) (cP A D ac K h [va_rf (some a0), .int a1, va_rf a2]) (cQv A D ac K x) (K.2.2.1 - h.2.1) (K.2.2.2 - h.2.2) A := by
  refine c_entry (plainFor_of_name (by decide)) (by simp [lg_sl, ct_r, ct_i, ct_l]) ?_
  intro p e s m below meth c S hr hlk hnm hG hRM hH hS ls hl
  replace hl : lv_has ls 3 [(0, va_rf (some a0)), (1, .int a1), (2, va_rf a2)] := (by simpa [lv_args, ct_r, ct_i, ct_l] using hl)
  replace hnm : meth.name = "add" := hnm
  replace S : CallFix p m c cX11_add 3 s _ lw_all RX11 := S
  obtain ⟨hx, hb, hml, hown, hts⟩ := id S
  unfold fX11_add at z
  refine c_aload_n hx hb dX11_add_0 rfl (lv_at hl 0 rfl) ?_
  replace z := ob z
  obtain ⟨v1, zv1, z⟩ := z
  obtain ⟨fsv1, yv1, zv1⟩ := gR_e zv1
  refine c_get S hG hH (ci := 9) (k := 1) rfl in_X11 (Nat.le_of_ble_eq_true rfl) q1031 (fun _ y => y) yv1 zv1 dX11_add_1 ?_
  refine lv_iload_n hx hb dX11_add_4 rfl (lv_at hl 1 rfl) ?_
  replace z := ob z
  obtain ⟨b2, zb2, z⟩ := z
  obtain ⟨yb2, zb2⟩ := rcv_e zb2
  replace z := ob z
  obtain ⟨x3, zx3, z⟩ := z
  refine c_callq hH hS hRM (fun _ _ f1 f2 => va_runV (b := b2) (As := [.int a1]) (rest := []) S (metJ15_append zx3) (cwV 1 hts (lw_V q1123 q1124 q1125 q195 q1126) rfl rfl rfl (by decide +kernel) ⟨(Nat.le_of_ble_eq_true rfl), (Nat.le_of_ble_eq_true rfl)⟩) (c_preV hG hH hS (ci := 21) rfl zb2) rfl rfl hl.1 (by rw [yb2]; rfl) (lv_room (Nat.le_of_ble_eq_true rfl)) dX11_add_5 ⟨f1, f2⟩) (fun H locs hH hS => ?_)
  refine lv_pop hx hb dX11_add_8 (ct_r _) ?_
  refine c_aload_n hx hb dX11_add_9 rfl (lv_at hl 0 rfl) ?_
  replace z := ob z
  obtain ⟨v4, zv4, z⟩ := z
  obtain ⟨fsv4, yv4, zv4⟩ := gR_e zv4
  refine c_get S hG hH (ci := 9) (k := 0) rfl in_X11 (Nat.le_of_ble_eq_true rfl) q1030 (fun _ y => y) yv4 zv4 dX11_add_10 ?_
  refine c_aload_n hx hb dX11_add_13 rfl (lv_at hl 2 rfl) ?_
  replace z := ob z
  obtain ⟨b5, zb5, z⟩ := z
  obtain ⟨yb5, zb5⟩ := rcv_e zb5
  replace z := ob z
  obtain ⟨x6, zx6, z⟩ := z
  refine c_callFi hH hS hRM (fun _ _ f1 f2 => va_runF (b := b5) (As := [va_rf a2]) (rest := []) (hG.1.1 19 _ rfl).2 S (metJ2_add zx6) (va_cwF 1 hts (lw_app (lw_l4 q1179 q832 q834 q171) (lw_meth q836)) rfl rfl rfl hG.2.2.2.2.1.2.2 (by decide +kernel) ⟨(Nat.le_of_ble_eq_true rfl), (Nat.le_of_ble_eq_true rfl)⟩) (c_preV hG hH hS (ci := 19) rfl zb5) rfl rfl hl.1 (by rw [yb5]; rfl) (lv_room (Nat.le_of_ble_eq_true rfl)) dX11_add_14 ⟨f1, f2⟩) (fun H locs hH hS => ?_)
  refine lv_pop hx hb dX11_add_19 rfl ?_
  exact c_vret S hr hlk hH hS z dX11_add_20
/-! FourOnOne$Value.<init>()V -/
def fX10_init (K : KE) (h : HS) (a0 : Nat) : Option (Unit) :=
  some ()
set_option maxHeartbeats 4000000 in
theorem metX10_init {l : Launch} {A : Nat → Prop} {D : va_G} {ac : Nat → ClassId} {K : KE} {h : HS} {a0 : Nat} {x : Unit} (z : fX10_init K h a0 = some x) : Met l yX10_init (ws_ yX10_init cX10_init 1 (none)) (rmC 2 40 K h) (cP A D ac K h [va_rf (some a0)]) (cQv A D ac K h) (K.2.2.1 - h.2.1) (K.2.2.2 - h.2.2) A := by
  refine c_entry (plainFor_of_name (by decide)) (Nat.le_of_ble_eq_true rfl) ?_
  intro p e s m below meth c S hr hlk hnm hG hRM hH hS ls hl
  replace hl : lv_has ls 1 [(0, va_rf (some a0))] := hl
  replace hnm : meth.name = "<init>" := hnm
  replace S : CallFix p m c cX10_init 1 s _ lw_all RX10 := S
  obtain ⟨hx, hb, hml, hown, hts⟩ := id S
  unfold fX10_init at z
  refine c_aload_n hx hb dX10_init_0 rfl (lv_at hl 0 rfl) ?_
  refine c_obj S q1004 q213 q214 hl.1 (Nat.le_of_ble_eq_true rfl) (Nat.le_of_ble_eq_true rfl) (Nat.le_of_ble_eq_true rfl) dX10_init_1 ?_
  exact c_vret' S hr hlk hH hS z dX10_init_4
/-! FourOnOne$Chain.<init>()V -/
def fX11_init (K : KE) (h : HS) (a0 : Nat) : Option (HS) :=
  (fX10_init K h a0).bind fun x1 =>
  (alc K h (.inr (19, df19)) 3).bind fun h2 =>
  (fJ2_init K h2 h.2.1 (2 : Int32)).bind fun x3 =>
  (pV x3 (some a0) 9 0 (va_rf (some h.2.1))).bind fun h4 =>
  (alc K h4 (.inr (21, df21)) 4).bind fun h5 =>
  (fJ15_init K h5 h4.2.1).bind fun x6 =>
  (pV x6 (some a0) 9 1 (va_rf (some h4.2.1))).bind fun h7 =>
  some h7
set_option maxHeartbeats 4000000 in
theorem metX11_init {l : Launch} {A : Nat → Prop} {D : va_G} {ac : Nat → ClassId} {K : KE} {h : HS} {a0 : Nat} {x : HS} (z : fX11_init K h a0 = some x) : Met l yX11_init (ws_ yX11_init cX11_init 1 (none)) (rmC 5 101 K h) (cP A D ac K h [va_rf (some a0)]) (cQv A D ac K x) (K.2.2.1 - h.2.1) (K.2.2.2 - h.2.2) A := by
  refine c_entry (plainFor_of_name (by decide)) (Nat.le_of_ble_eq_true rfl) ?_
  intro p e s m below meth c S hr hlk hnm hG hRM hH hS ls hl
  replace hl : lv_has ls 1 [(0, va_rf (some a0))] := hl
  replace hnm : meth.name = "<init>" := hnm
  replace S : CallFix p m c cX11_init 1 s _ lw_all RX11 := S
  obtain ⟨hx, hb, hml, hown, hts⟩ := id S
  unfold fX11_init at z
  refine c_aload_n hx hb dX11_init_0 rfl (lv_at hl 0 rfl) ?_
  replace z := ob z
  obtain ⟨x1, zx1, z⟩ := z
  refine c_callv hH hS hRM (fun _ _ f1 f2 => va_runIN (b := a0) (As := []) (rest := []) S (metX10_init zx1) ⟨va_cnB 0 hts (lw_meth q1003) rfl rfl rfl (hG.2.1.2.1 _ _ _ _ q1001) (hts _ q192) (by decide +kernel) ⟨(Nat.le_of_ble_eq_true rfl), (Nat.le_of_ble_eq_true rfl)⟩, rfl, hts _ q1002⟩ (c_pre hG hH hS) rfl rfl hl.1 rfl (lv_room (Nat.le_of_ble_eq_true rfl)) dX11_init_1 ⟨f1, f2⟩) (fun H locs hH hS => ?_)
  refine c_aload_n hx hb dX11_init_4 rfl (lv_at hl 0 rfl) ?_
  replace z := ob z
  obtain ⟨h2, zh2, z⟩ := z
  refine c_new S hG hH hS hRM (ci := 19) rfl in_J2 tyJ2 tyJ2_ok q1005 q222 q171 df19_ok zh2 dX11_init_5 (fun H locs hH hS => ?_)
  refine lv_dup hx hb dX11_init_8 (ct_r _) ?_
  refine lv_iconst (v := (2 : Int32)) hx hb dX11_init_9 (by decide) ?_
  replace z := ob z
  obtain ⟨x3, zx3, z⟩ := z
  refine c_callv hH hS hRM (fun _ _ f1 f2 => va_runI (b := h.2.1) (As := [.int (2 : Int32)]) (rest := [va_rf (some h.2.1), va_rf (some a0)]) S (metJ2_init zx3) (cwI 1 hts (lw_meth q225) rfl rfl rfl (hts _ q171) (hts _ q1006) (hts _ q224) rfl (by decide +kernel) ⟨(Nat.le_of_ble_eq_true rfl), (Nat.le_of_ble_eq_true rfl)⟩) (c_pre hG hH hS) rfl rfl hl.1 rfl (lv_room (by simp [ct_r, ct_i, ct_l])) dX11_init_10 ⟨f1, f2⟩) (fun H locs hH hS => ?_)
  replace z := ob z
  obtain ⟨h4, zh4, z⟩ := z
  refine c_putF S hG hH hS (ci := 9) (k := 0) rfl in_X11 tyX11 tyX11_ok nmX11 (Nat.le_of_ble_eq_true rfl) q1030 (fun _ y => y) rfl hnm rfl (ty := .object "java/util/List") rfl (nr_o _) (ft_o _) zh4 dX11_init_13 (fun H locs hH hS => ?_)
  refine c_aload_n hx hb dX11_init_16 rfl (lv_at hl 0 rfl) ?_
  replace z := ob z
  obtain ⟨h5, zh5, z⟩ := z
  refine c_new S hG hH hS hRM (ci := 21) rfl in_J15 tyJ15 tyJ15_ok q1007 q1008 q195 df21_ok zh5 dX11_init_17 (fun H locs hH hS => ?_)
  refine lv_dup hx hb dX11_init_20 (ct_r _) ?_
  replace z := ob z
  obtain ⟨x6, zx6, z⟩ := z
  refine c_callv hH hS hRM (fun _ _ f1 f2 => va_runI (b := h4.2.1) (As := []) (rest := [va_rf (some h4.2.1), va_rf (some a0)]) S (metJ15_init zx6) (cwI 0 hts (lw_meth q1011) rfl rfl rfl (hts _ q195) (hts _ q1009) (hts _ q1010) rfl (by decide +kernel) ⟨(Nat.le_of_ble_eq_true rfl), (Nat.le_of_ble_eq_true rfl)⟩) (c_pre hG hH hS) rfl rfl hl.1 rfl (lv_room (by simp [ct_r, ct_i, ct_l])) dX11_init_21 ⟨f1, f2⟩) (fun H locs hH hS => ?_)
  replace z := ob z
  obtain ⟨h7, zh7, z⟩ := z
  refine c_putF S hG hH hS (ci := 9) (k := 1) rfl in_X11 tyX11 tyX11_ok nmX11 (Nat.le_of_ble_eq_true rfl) q1031 (fun _ y => y) rfl hnm rfl (ty := .object "java/lang/StringBuilder") rfl (nr_o _) (ft_o _) zh7 dX11_init_24 (fun H locs hH hS => ?_)
  exact c_vret S hr hlk hH hS z dX11_init_27
/-! FourOnOne.find(Ljava/lang/String;[Ljava/lang/String;)I -/
def fX0_find_2 (K : KE) (h : HS) : Nat → Option Nat → Option Nat → Int32 → Option (Int32)
  | 0, _, _, _ => none
  | n + 1, a0, a1, a2 =>
    (cN K h a1 6).bind fun v1 =>
    if v1 ≤ a2 then
      some (-1 : Int32)
    else
    (cR K h a1 6 a2).bind fun v3 =>
    (rcv K h v3 20).bind fun b4 =>
    (fJ6_equals K h b4 a0).bind fun x5 =>
    if x5 = 0 then
      fX0_find_2 K h n a0 a1 (a2 + (1 : Int32))
    else
    some a2
def fX0_find (K : KE) (h : HS) (a0 : Option Nat) (a1 : Option Nat) : Option (Int32) :=
  fX0_find_2 K h FU a0 a1 (0 : Int32)
set_option maxHeartbeats 4000000 in
theorem wX0_find_2 {p : Program} {l : Launch} {e : Env} {s : State} {m : MethodId} {args : Array Value} {below : List Frame} {meth : Method} {c : Code} {A : Nat → Prop} {D : va_G} {ac : Nat → ClassId} {K : KE} {h : HS} (S : CallFix p m c cX0_find 3 s args lw_all RX0) (hr : meth.sig.returnType = some .int) (hlk : meth.locks = false) (hnm : meth.name = "find") (hG : GK A D ac K s) (hRM : RM K s (rmC 3 44 K h)) {x : Int32} : ∀ (n : Nat) (a0 : Option Nat) (a1 : Option Nat) (a2 : Int32), fX0_find_2 K h n a0 a1 a2 = some x → cGo p l e (rmC 3 44 K h) s m args below meth c A D ac K (MQ below (cQi A D ac K (h, x)) args s (K.2.2.1 - h.2.1) (K.2.2.2 - h.2.2) A) 3 2 [(0, va_rf a0), (1, va_rf a1), (2, .int a2)] [] h := by
  obtain ⟨hx, hb, hml, hown, hts⟩ := id S
  intro n
  induction n with
  | zero => intro a0 a1 a2 z; cases z
  | succ n ih =>
    intro a0 a1 a2 z H locs hH hS ls hl
    rw [fX0_find_2] at z
    refine lv_iload_n hx hb dX0_find_2 rfl (lv_at hl 2 rfl) ?_
    refine c_aload_n hx hb dX0_find_3 rfl (lv_at hl 1 rfl) ?_
    replace z := ob z
    obtain ⟨v1, zv1, z⟩ := z
    refine c_alen S hG hH 6 rfl zv1 dX0_find_4 ?_
    refine lv_icmp_ge (tgt := 26) hx hb dX0_find_5 (by decide) (fun c2 => ?_) (fun c2 => ?_)
    · replace z := it c2 z
      refine lv_iconst (v := (-1 : Int32)) hx hb dX0_find_26 (by decide) ?_
      exact c_iret' S hr hlk rfl hH hS z dX0_find_27
    replace z := ie c2 z
    refine c_aload_n hx hb dX0_find_8 rfl (lv_at hl 1 rfl) ?_
    refine lv_iload_n hx hb dX0_find_9 rfl (lv_at hl 2 rfl) ?_
    replace z := ob z
    obtain ⟨v3, zv3, z⟩ := z
    refine c_aald S hG hH 6 rfl rfl zv3 dX0_find_10 ?_
    refine c_aload_n hx hb dX0_find_11 rfl (lv_at hl 0 rfl) ?_
    replace z := ob z
    obtain ⟨b4, zb4, z⟩ := z
    obtain ⟨yb4, zb4⟩ := rcv_e zb4
    replace z := ob z
    obtain ⟨x5, zx5, z⟩ := z
    refine c_calli hH hS hRM (fun _ _ f1 f2 => va_runV (b := b4) (As := [va_rf a0]) (rest := []) S (metJ6_equals zx5) (cwV 1 hts (lw_V q781 q746 q747 q180 q748) rfl rfl rfl (by decide +kernel) ⟨(Nat.le_of_ble_eq_true rfl), (Nat.le_of_ble_eq_true rfl)⟩) (c_preV hG hH hS (ci := 20) rfl zb4) rfl rfl hl.1 (by rw [yb4]; rfl) (lv_room (Nat.le_of_ble_eq_true rfl)) dX0_find_12 ⟨f1, f2⟩) (fun H locs hH hS => ?_)
    refine lv_if_eq (tgt := 20) hx hb dX0_find_15 (by decide) (fun c6 => ?_) (fun c6 => ?_)
    rotate_left 1
    · replace z := ie c6 z
      refine lv_iload_n hx hb dX0_find_18 rfl (lv_at hl 2 rfl) ?_
      exact c_iret' S hr hlk rfl hH hS z dX0_find_19
    replace z := it c6 z
    refine lv_iinc (v := (a2 + (1 : Int32))) (lv' := [(2, .int (a2 + (1 : Int32))), (0, va_rf a0), (1, va_rf a1)]) hx hb dX0_find_20 hl (k := 2) rfl rfl (by decide) (by simp [List.filter, ct_r]) (fun ls hl => ?_)
    refine lv_goto (tgt := 2) hx hb dX0_find_23 (by decide) ?_
    exact ih a0 a1 (a2 + (1 : Int32)) z _ _ hH hS _ (lv_sub hl [1, 2, 0] rfl)
set_option maxHeartbeats 4000000 in
theorem metX0_find {l : Launch} {A : Nat → Prop} {D : va_G} {ac : Nat → ClassId} {K : KE} {h : HS} {a0 : Option Nat} {a1 : Option Nat} {x : Int32} (z : fX0_find K h a0 a1 = some x) : Met l yX0_find (ws_ yX0_find cX0_find 3 (some .int)) (rmC 3 44 K h) (cP A D ac K h [va_rf a0, va_rf a1]) (cQi A D ac K (h, x)) (K.2.2.1 - h.2.1) (K.2.2.2 - h.2.2) A := by
  refine c_entry (plainFor_of_name (by decide)) (by simp [lg_sl, ct_r, ct_i, ct_l]) ?_
  intro p e s m below meth c S hr hlk hnm hG hRM hH hS ls hl
  replace hl : lv_has ls 3 [(0, va_rf a0), (1, va_rf a1)] := (by simpa [lv_args, ct_r, ct_i, ct_l] using hl)
  replace hnm : meth.name = "find" := hnm
  replace S : CallFix p m c cX0_find 3 s _ lw_all RX0 := S
  obtain ⟨hx, hb, hml, hown, hts⟩ := id S
  unfold fX0_find at z
  refine lv_iconst (v := (0 : Int32)) hx hb dX0_find_0 (by decide) ?_
  refine lv_istore_n (i := 2) (lv' := [(2, .int (0 : Int32)), (0, va_rf a0), (1, va_rf a1)]) hx hb dX0_find_1 rfl hl (by decide) (by simp [List.filter, ct_r, ct_i, ct_l]) (fun ls hl => ?_)
  exact wX0_find_2 S hr hlk hnm hG hRM FU a0 a1 (0 : Int32) z _ _ hH hS _ (lv_sub hl [1, 2, 0] rfl)
/-! FourOnOne.has(II)Z -/
def fX0_has (K : KE) (h : HS) (a0 : Int32) (a1 : Int32) : Option (Int32) :=
  if ((a0 >>> (a1 &&& 31)) &&& (1 : Int32)) = (1 : Int32) then
    some (1 : Int32)
  else
  some (0 : Int32)
set_option maxHeartbeats 4000000 in
theorem metX0_has {l : Launch} {A : Nat → Prop} {D : va_G} {ac : Nat → ClassId} {K : KE} {h : HS} {a0 : Int32} {a1 : Int32} {x : Int32} (z : fX0_has K h a0 a1 = some x) : Met l yX0_has (ws_ yX0_has cX0_has 2 (some .boolean)) (rmC 1 0 K h) (cP A D ac K h [.int a0, .int a1]) (cQi A D ac K (h, x)) (K.2.2.1 - h.2.1) (K.2.2.2 - h.2.2) A := by
  refine c_entry (plainFor_of_name (by decide)) (Nat.le_of_ble_eq_true rfl) ?_
  intro p e s m below meth c S hr hlk hnm hG hRM hH hS ls hl
  replace hl : lv_has ls 2 [(0, .int a0), (1, .int a1)] := hl
  replace hnm : meth.name = "has" := hnm
  replace S : CallFix p m c cX0_has 2 s _ lw_all RX0 := S
  obtain ⟨hx, hb, hml, hown, hts⟩ := id S
  unfold fX0_has at z
  refine lv_iload_n hx hb dX0_has_0 rfl (lv_at hl 0 rfl) ?_
  refine lv_iload_n hx hb dX0_has_1 rfl (lv_at hl 1 rfl) ?_
  refine lv_ishr hx hb dX0_has_2 ?_
  refine lv_iconst (v := (1 : Int32)) hx hb dX0_has_3 (by decide) ?_
  refine lv_iand hx hb dX0_has_4 ?_
  refine lv_iconst (v := (1 : Int32)) hx hb dX0_has_5 (by decide) ?_
  refine lv_icmp_ne (tgt := 13) hx hb dX0_has_6 (by decide) (fun c1 => ?_) (fun c1 => ?_)
  · replace z := ie c1 z
    refine lv_iconst (v := (0 : Int32)) hx hb dX0_has_13 (by decide) ?_
    exact c_iret' S hr hlk rfl hH hS z dX0_has_14
  replace z := it c1 z
  refine lv_iconst (v := (1 : Int32)) hx hb dX0_has_9 (by decide) ?_
  refine lv_goto (tgt := 14) hx hb dX0_has_10 (by decide) ?_
  exact c_iret' S hr hlk rfl hH hS z dX0_has_14
/-! FourOnOne$Fixed.<init>(J)V -/
def fX13_init (K : KE) (h : HS) (a0 : Nat) (a1 : Int64) : Option (HS) :=
  (fX10_init K h a0).bind fun x1 =>
  (pV h (some a0) 11 0 (.long a1)).bind fun h2 =>
  some h2
set_option maxHeartbeats 4000000 in
theorem metX13_init {l : Launch} {A : Nat → Prop} {D : va_G} {ac : Nat → ClassId} {K : KE} {h : HS} {a0 : Nat} {a1 : Int64} {x : HS} (z : fX13_init K h a0 a1 = some x) : Met l yX13_init (ws_ yX13_init cX13_init 3 (none)) (rmC 3 60 K h) (cP A D ac K h [va_rf (some a0), .long a1]) (cQv A D ac K x) (K.2.2.1 - h.2.1) (K.2.2.2 - h.2.2) A := by
  refine c_entry (plainFor_of_name (by decide)) (Nat.le_of_ble_eq_true rfl) ?_
  intro p e s m below meth c S hr hlk hnm hG hRM hH hS ls hl
  replace hl : lv_has ls 3 [(0, va_rf (some a0)), (1, .long a1)] := hl
  replace hnm : meth.name = "<init>" := hnm
  replace S : CallFix p m c cX13_init 3 s _ lw_all RX13 := S
  obtain ⟨hx, hb, hml, hown, hts⟩ := id S
  unfold fX13_init at z
  refine c_aload_n hx hb dX13_init_0 rfl (lv_at hl 0 rfl) ?_
  replace z := ob z
  obtain ⟨x1, zx1, z⟩ := z
  refine c_callv hH hS hRM (fun _ _ f1 f2 => va_runIN (b := a0) (As := []) (rest := []) S (metX10_init zx1) ⟨va_cnB 0 hts (lw_meth q1003) rfl rfl rfl (hG.2.1.2.1 _ _ _ _ q1078) (hts _ q192) (by decide +kernel) ⟨(Nat.le_of_ble_eq_true rfl), (Nat.le_of_ble_eq_true rfl)⟩, rfl, hts _ q1002⟩ (c_pre hG hH hS) rfl rfl hl.1 rfl (lv_room (Nat.le_of_ble_eq_true rfl)) dX13_init_1 ⟨f1, f2⟩) (fun H locs hH hS => ?_)
  refine c_aload_n hx hb dX13_init_4 rfl (lv_at hl 0 rfl) ?_
  refine lv_lload_n hx hb dX13_init_5 rfl (lv_at hl 1 rfl) ?_
  replace z := ob z
  obtain ⟨h2, zh2, z⟩ := z
  refine c_putF S hG hH hS (ci := 11) (k := 0) rfl in_X13 tyX13 tyX13_ok nmX13 (Nat.le_of_ble_eq_true rfl) q1079 (fun _ y => y) rfl hnm rfl (ty := .long) rfl rfl rfl zh2 dX13_init_6 (fun H locs hH hS => ?_)
  exact c_vret S hr hlk hH hS z dX13_init_9
/-! FourOnOne$Asked.<init>(I)V -/
def fX14_init (K : KE) (h : HS) (a0 : Nat) (a1 : Int32) : Option (HS) :=
  (fX10_init K h a0).bind fun x1 =>
  (pV h (some a0) 12 0 (.int a1)).bind fun h2 =>
  some h2
set_option maxHeartbeats 4000000 in
theorem metX14_init {l : Launch} {A : Nat → Prop} {D : va_G} {ac : Nat → ClassId} {K : KE} {h : HS} {a0 : Nat} {a1 : Int32} {x : HS} (z : fX14_init K h a0 a1 = some x) : Met l yX14_init (ws_ yX14_init cX14_init 2 (none)) (rmC 3 60 K h) (cP A D ac K h [va_rf (some a0), .int a1]) (cQv A D ac K x) (K.2.2.1 - h.2.1) (K.2.2.2 - h.2.2) A := by
  refine c_entry (plainFor_of_name (by decide)) (Nat.le_of_ble_eq_true rfl) ?_
  intro p e s m below meth c S hr hlk hnm hG hRM hH hS ls hl
  replace hl : lv_has ls 2 [(0, va_rf (some a0)), (1, .int a1)] := hl
  replace hnm : meth.name = "<init>" := hnm
  replace S : CallFix p m c cX14_init 2 s _ lw_all RX14 := S
  obtain ⟨hx, hb, hml, hown, hts⟩ := id S
  unfold fX14_init at z
  refine c_aload_n hx hb dX14_init_0 rfl (lv_at hl 0 rfl) ?_
  replace z := ob z
  obtain ⟨x1, zx1, z⟩ := z
  refine c_callv hH hS hRM (fun _ _ f1 f2 => va_runIN (b := a0) (As := []) (rest := []) S (metX10_init zx1) ⟨va_cnB 0 hts (lw_meth q1003) rfl rfl rfl (hG.2.1.2.1 _ _ _ _ q1090) (hts _ q192) (by decide +kernel) ⟨(Nat.le_of_ble_eq_true rfl), (Nat.le_of_ble_eq_true rfl)⟩, rfl, hts _ q1002⟩ (c_pre hG hH hS) rfl rfl hl.1 rfl (lv_room (Nat.le_of_ble_eq_true rfl)) dX14_init_1 ⟨f1, f2⟩) (fun H locs hH hS => ?_)
  refine c_aload_n hx hb dX14_init_4 rfl (lv_at hl 0 rfl) ?_
  refine lv_iload_n hx hb dX14_init_5 rfl (lv_at hl 1 rfl) ?_
  replace z := ob z
  obtain ⟨h2, zh2, z⟩ := z
  refine c_putF S hG hH hS (ci := 12) (k := 0) rfl in_X14 tyX14 tyX14_ok nmX14 (Nat.le_of_ble_eq_true rfl) q1091 (fun _ y => y) rfl hnm rfl (ty := .int) rfl rfl rfl zh2 dX14_init_6 (fun H locs hH hS => ?_)
  exact c_vret S hr hlk hH hS z dX14_init_9
/-! FourOnOne$Looked.<init>(LFourOnOne;ILFourOnOne$Value;)V -/
def fX15_init (K : KE) (h : HS) (a0 : Nat) (a1 : Option Nat) (a2 : Int32) (a3 : Option Nat) : Option (HS) :=
  (pV h (some a0) 13 2 (va_rf a1)).bind fun h1 =>
  (fX10_init K h1 a0).bind fun x2 =>
  (pV h1 (some a0) 13 0 (.int a2)).bind fun h3 =>
  (pV h3 (some a0) 13 1 (va_rf a3)).bind fun h4 =>
  some h4
set_option maxHeartbeats 4000000 in
theorem metX15_init {l : Launch} {A : Nat → Prop} {D : va_G} {ac : Nat → ClassId} {K : KE} {h : HS} {a0 : Nat} {a1 : Option Nat} {a2 : Int32} {a3 : Option Nat} {x : HS} (z : fX15_init K h a0 a1 a2 a3 = some x) : Met l yX15_init (ws_ yX15_init cX15_init 4 (none)) (rmC 3 60 K h) (cP A D ac K h [va_rf (some a0), va_rf a1, .int a2, va_rf a3]) (cQv A D ac K x) (K.2.2.1 - h.2.1) (K.2.2.2 - h.2.2) A := by
  refine c_entry (plainFor_of_name (by decide)) (by simp [lg_sl, ct_r, ct_i, ct_l]) ?_
  intro p e s m below meth c S hr hlk hnm hG hRM hH hS ls hl
  replace hl : lv_has ls 4 [(0, va_rf (some a0)), (1, va_rf a1), (2, .int a2), (3, va_rf a3)] := (by simpa [lv_args, ct_r, ct_i, ct_l] using hl)
  replace hnm : meth.name = "<init>" := hnm
  replace S : CallFix p m c cX15_init 4 s _ lw_all RX15 := S
  obtain ⟨hx, hb, hml, hown, hts⟩ := id S
  unfold fX15_init at z
  refine c_aload_n hx hb dX15_init_0 rfl (lv_at hl 0 rfl) ?_
  refine c_aload_n hx hb dX15_init_1 rfl (lv_at hl 1 rfl) ?_
  replace z := ob z
  obtain ⟨h1, zh1, z⟩ := z
  refine c_putF S hG hH hS (ci := 13) (k := 2) rfl in_X15 tyX15 tyX15_ok nmX15 (Nat.le_of_ble_eq_true rfl) q1109 (fun _ y => y) rfl hnm rfl (ty := .object "FourOnOne") rfl (nr_o _) (ft_o _) zh1 dX15_init_2 (fun H locs hH hS => ?_)
  refine c_aload_n hx hb dX15_init_5 rfl (lv_at hl 0 rfl) ?_
  replace z := ob z
  obtain ⟨x2, zx2, z⟩ := z
  refine c_callv hH hS hRM (fun _ _ f1 f2 => va_runIN (b := a0) (As := []) (rest := []) S (metX10_init zx2) ⟨va_cnB 0 hts (lw_meth q1003) rfl rfl rfl (hG.2.1.2.1 _ _ _ _ q1106) (hts _ q192) (by decide +kernel) ⟨(Nat.le_of_ble_eq_true rfl), (Nat.le_of_ble_eq_true rfl)⟩, rfl, hts _ q1002⟩ (c_pre hG hH hS) rfl rfl hl.1 rfl (lv_room (Nat.le_of_ble_eq_true rfl)) dX15_init_6 ⟨f1, f2⟩) (fun H locs hH hS => ?_)
  refine c_aload_n hx hb dX15_init_9 rfl (lv_at hl 0 rfl) ?_
  refine lv_iload_n hx hb dX15_init_10 rfl (lv_at hl 2 rfl) ?_
  replace z := ob z
  obtain ⟨h3, zh3, z⟩ := z
  refine c_putF S hG hH hS (ci := 13) (k := 0) rfl in_X15 tyX15 tyX15_ok nmX15 (Nat.le_of_ble_eq_true rfl) q1107 (fun _ y => y) rfl hnm rfl (ty := .int) rfl rfl rfl zh3 dX15_init_11 (fun H locs hH hS => ?_)
  refine c_aload_n hx hb dX15_init_14 rfl (lv_at hl 0 rfl) ?_
  refine c_aload_n hx hb dX15_init_15 rfl (lv_at hl 3 rfl) ?_
  replace z := ob z
  obtain ⟨h4, zh4, z⟩ := z
  refine c_putF S hG hH hS (ci := 13) (k := 1) rfl in_X15 tyX15 tyX15_ok nmX15 (Nat.le_of_ble_eq_true rfl) q1108 (fun _ y => y) rfl hnm rfl (ty := .object "FourOnOne$Value") rfl (nr_o _) (ft_o _) zh4 dX15_init_16 (fun H locs hH hS => ?_)
  exact c_vret S hr hlk hH hS z dX15_init_19
/-! FourOnOne$Pair.<init>(ZLFourOnOne$Value;LFourOnOne$Value;)V -/
def fX12_init (K : KE) (h : HS) (a0 : Nat) (a1 : Int32) (a2 : Option Nat) (a3 : Option Nat) : Option (HS) :=
  (fX10_init K h a0).bind fun x1 =>
  (zr a1).bind fun g2 =>
  (pV h (some a0) 10 0 (.int a1)).bind fun h3 =>
  (pV h3 (some a0) 10 1 (va_rf a2)).bind fun h4 =>
  (pV h4 (some a0) 10 2 (va_rf a3)).bind fun h5 =>
  some h5
set_option maxHeartbeats 4000000 in
theorem metX12_init {l : Launch} {A : Nat → Prop} {D : va_G} {ac : Nat → ClassId} {K : KE} {h : HS} {a0 : Nat} {a1 : Int32} {a2 : Option Nat} {a3 : Option Nat} {x : HS} (z : fX12_init K h a0 a1 a2 a3 = some x) : Met l yX12_init (ws_ yX12_init cX12_init 4 (none)) (rmC 3 60 K h) (cP A D ac K h [va_rf (some a0), .int a1, va_rf a2, va_rf a3]) (cQv A D ac K x) (K.2.2.1 - h.2.1) (K.2.2.2 - h.2.2) A := by
  refine c_entry (plainFor_of_name (by decide)) (by simp [lg_sl, ct_r, ct_i, ct_l]) ?_
  intro p e s m below meth c S hr hlk hnm hG hRM hH hS ls hl
  replace hl : lv_has ls 4 [(0, va_rf (some a0)), (1, .int a1), (2, va_rf a2), (3, va_rf a3)] := (by simpa [lv_args, ct_r, ct_i, ct_l] using hl)
  replace hnm : meth.name = "<init>" := hnm
  replace S : CallFix p m c cX12_init 4 s _ lw_all RX12 := S
  obtain ⟨hx, hb, hml, hown, hts⟩ := id S
  unfold fX12_init at z
  refine c_aload_n hx hb dX12_init_0 rfl (lv_at hl 0 rfl) ?_
  replace z := ob z
  obtain ⟨x1, zx1, z⟩ := z
  refine c_callv hH hS hRM (fun _ _ f1 f2 => va_runIN (b := a0) (As := []) (rest := []) S (metX10_init zx1) ⟨va_cnB 0 hts (lw_meth q1003) rfl rfl rfl (hG.2.1.2.1 _ _ _ _ q1062) (hts _ q192) (by decide +kernel) ⟨(Nat.le_of_ble_eq_true rfl), (Nat.le_of_ble_eq_true rfl)⟩, rfl, hts _ q1002⟩ (c_pre hG hH hS) rfl rfl hl.1 rfl (lv_room (Nat.le_of_ble_eq_true rfl)) dX12_init_1 ⟨f1, f2⟩) (fun H locs hH hS => ?_)
  refine c_aload_n hx hb dX12_init_4 rfl (lv_at hl 0 rfl) ?_
  refine lv_iload_n hx hb dX12_init_5 rfl (lv_at hl 1 rfl) ?_
  replace z := ob z
  obtain ⟨g2, zg2, z⟩ := z
  obtain ⟨yg2, zg2, -⟩ := zr_e zg2
  replace z := ob z
  obtain ⟨h3, zh3, z⟩ := z
  refine c_putF S hG hH hS (ci := 10) (k := 0) rfl in_X12 tyX12 tyX12_ok nmX12 (Nat.le_of_ble_eq_true rfl) q1063 (fun _ y => y) rfl hnm rfl (ty := .boolean) rfl yg2 zg2 zh3 dX12_init_6 (fun H locs hH hS => ?_)
  refine c_aload_n hx hb dX12_init_9 rfl (lv_at hl 0 rfl) ?_
  refine c_aload_n hx hb dX12_init_10 rfl (lv_at hl 2 rfl) ?_
  replace z := ob z
  obtain ⟨h4, zh4, z⟩ := z
  refine c_putF S hG hH hS (ci := 10) (k := 1) rfl in_X12 tyX12 tyX12_ok nmX12 (Nat.le_of_ble_eq_true rfl) q1064 (fun _ y => y) rfl hnm rfl (ty := .object "FourOnOne$Value") rfl (nr_o _) (ft_o _) zh4 dX12_init_11 (fun H locs hH hS => ?_)
  refine c_aload_n hx hb dX12_init_14 rfl (lv_at hl 0 rfl) ?_
  refine c_aload_n hx hb dX12_init_15 rfl (lv_at hl 3 rfl) ?_
  replace z := ob z
  obtain ⟨h5, zh5, z⟩ := z
  refine c_putF S hG hH hS (ci := 10) (k := 2) rfl in_X12 tyX12 tyX12_ok nmX12 (Nat.le_of_ble_eq_true rfl) q1065 (fun _ y => y) rfl hnm rfl (ty := .object "FourOnOne$Value") rfl (nr_o _) (ft_o _) zh5 dX12_init_16 (fun H locs hH hS => ?_)
  exact c_vret S hr hlk hH hS z dX12_init_19
/-! FourOnOne$Reader.takes(I)Z -/
def fX2_takes_28 (K : KE) (a0 : Nat) (h : HS) (a2 : Int32) (t1 : Int32) (t2 : Int32) : Option (HS × Int32) :=
  (pV h (some a0) 2 2 (.int (t1 + t2))).bind fun h1 =>
  (zr a2).bind fun g2 =>
  some (h1, a2)
def fX2_takes_13 (K : KE) (a0 : Nat) (h : HS) (t0 : Int32) : Option (HS × Int32) :=
  (gI K h (some a0) 2 2).bind fun v1 =>
  if t0 = 0 then
    fX2_takes_28 K a0 h t0 v1 (0 : Int32)
  else
  fX2_takes_28 K a0 h t0 v1 (1 : Int32)
def fX2_takes (K : KE) (h : HS) (a0 : Nat) (a1 : Int32) : Option (HS × Int32) :=
  (rcv K h (some a0) 2).bind fun b1 =>
  (fX2_here K h b1).bind fun x2 =>
  if x2.2 = a1 then
    fX2_takes_13 K a0 x2.1 (1 : Int32)
  else
  fX2_takes_13 K a0 x2.1 (0 : Int32)
set_option maxHeartbeats 4000000 in
theorem wX2_takes_28 {p : Program} {l : Launch} {e : Env} {s : State} {m : MethodId} {args : Array Value} {below : List Frame} {meth : Method} {c : Code} {A : Nat → Prop} {D : va_G} {ac : Nat → ClassId} {K : KE} {h0 : HS} {a0 : Nat} (S : CallFix p m c cX2_takes 3 s args lw_all RX2) (hr : meth.sig.returnType = some .boolean) (hlk : meth.locks = false) (hnm : meth.name = "takes") (hG : GK A D ac K s) (hRM : RM K s (rmC 3 41 K h0)) {x : HS × Int32} : ∀ (h : HS) (a2 : Int32) (t1 : Int32) (t2 : Int32), fX2_takes_28 K a0 h a2 t1 t2 = some x → cGo p l e (rmC 3 41 K h0) s m args below meth c A D ac K (MQ below (cQi A D ac K x) args s (K.2.2.1 - h0.2.1) (K.2.2.2 - h0.2.2) A) 3 28 [(0, va_rf (some a0)), (2, .int a2)] [.int t2, .int t1, va_rf (some a0)] h := by
  obtain ⟨hx, hb, hml, hown, hts⟩ := id S
  intro h a2 t1 t2 z H locs hH hS ls hl
  unfold fX2_takes_28 at z
  refine lv_iadd hx hb dX2_takes_28 ?_
  replace z := ob z
  obtain ⟨h1, zh1, z⟩ := z
  refine c_put S hG hH hS (ci := 2) (k := 2) rfl in_X2 tyX2 tyX2_ok nmX2 (Nat.le_of_ble_eq_true rfl) q384 (fun _ y => y) rfl (ty := .int) rfl rfl rfl zh1 dX2_takes_29 (fun H locs hH hS => ?_)
  refine lv_iload_n hx hb dX2_takes_32 rfl (lv_at hl 1 rfl) ?_
  replace z := ob z
  obtain ⟨g2, zg2, z⟩ := z
  obtain ⟨yg2, -⟩ := zr_e zg2
  exact c_iret S hr hlk yg2 hH hS z dX2_takes_33
set_option maxHeartbeats 4000000 in
theorem wX2_takes_13 {p : Program} {l : Launch} {e : Env} {s : State} {m : MethodId} {args : Array Value} {below : List Frame} {meth : Method} {c : Code} {A : Nat → Prop} {D : va_G} {ac : Nat → ClassId} {K : KE} {h0 : HS} {a0 : Nat} (S : CallFix p m c cX2_takes 3 s args lw_all RX2) (hr : meth.sig.returnType = some .boolean) (hlk : meth.locks = false) (hnm : meth.name = "takes") (hG : GK A D ac K s) (hRM : RM K s (rmC 3 41 K h0)) {x : HS × Int32} : ∀ (h : HS) (t0 : Int32), fX2_takes_13 K a0 h t0 = some x → cGo p l e (rmC 3 41 K h0) s m args below meth c A D ac K (MQ below (cQi A D ac K x) args s (K.2.2.1 - h0.2.1) (K.2.2.2 - h0.2.2) A) 3 13 [(0, va_rf (some a0))] [.int t0] h := by
  obtain ⟨hx, hb, hml, hown, hts⟩ := id S
  intro h t0 z H locs hH hS ls hl
  unfold fX2_takes_13 at z
  refine lv_istore_n (lv' := [(2, .int t0), (0, va_rf (some a0))]) hx hb dX2_takes_13 rfl hl (by decide) rfl (fun ls hl => ?_)
  refine c_aload_n hx hb dX2_takes_14 rfl (lv_at hl 1 rfl) ?_
  refine lv_dup hx hb dX2_takes_15 rfl ?_
  replace z := ob z
  obtain ⟨v1, zv1, z⟩ := z
  obtain ⟨fsv1, yv1, zv1⟩ := gI_e zv1
  refine c_get S hG hH (ci := 2) (k := 2) rfl in_X2 (Nat.le_of_ble_eq_true rfl) q384 (fun _ y => y) yv1 zv1 dX2_takes_16 ?_
  refine lv_iload_n hx hb dX2_takes_19 rfl (lv_at hl 0 rfl) ?_
  refine lv_if_eq (tgt := 27) hx hb dX2_takes_20 (by decide) (fun c2 => ?_) (fun c2 => ?_)
  · replace z := it c2 z
    refine lv_iconst (v := (0 : Int32)) hx hb dX2_takes_27 (by decide) ?_
    exact wX2_takes_28 S hr hlk hnm hG hRM h t0 v1 (0 : Int32) z _ _ hH hS _ (lv_sub hl [1, 0] rfl)
  replace z := ie c2 z
  refine lv_iconst (v := (1 : Int32)) hx hb dX2_takes_23 (by decide) ?_
  refine lv_goto (tgt := 28) hx hb dX2_takes_24 (by decide) ?_
  exact wX2_takes_28 S hr hlk hnm hG hRM h t0 v1 (1 : Int32) z _ _ hH hS _ (lv_sub hl [1, 0] rfl)
set_option maxHeartbeats 4000000 in
theorem metX2_takes {l : Launch} {A : Nat → Prop} {D : va_G} {ac : Nat → ClassId} {K : KE} {h : HS} {a0 : Nat} {a1 : Int32} {x : HS × Int32} (z : fX2_takes K h a0 a1 = some x) : Met l yX2_takes (ws_ yX2_takes cX2_takes 3 (some .boolean)) (rmC 3 41 K h) (cP A D ac K h [va_rf (some a0), .int a1]) (cQi A D ac K x) (K.2.2.1 - h.2.1) (K.2.2.2 - h.2.2) A := by
  refine c_entry (plainFor_of_name (by decide)) (Nat.le_of_ble_eq_true rfl) ?_
  intro p e s m below meth c S hr hlk hnm hG hRM hH hS ls hl
  replace hl : lv_has ls 3 [(0, va_rf (some a0)), (1, .int a1)] := hl
  replace hnm : meth.name = "takes" := hnm
  replace S : CallFix p m c cX2_takes 3 s _ lw_all RX2 := S
  obtain ⟨hx, hb, hml, hown, hts⟩ := id S
  unfold fX2_takes at z
  refine c_aload_n hx hb dX2_takes_0 rfl (lv_at hl 0 rfl) ?_
  replace z := ob z
  obtain ⟨b1, zb1, z⟩ := z
  obtain ⟨yb1, zb1⟩ := rcv_e zb1
  replace z := ob z
  obtain ⟨x2, zx2, z⟩ := z
  refine c_calli hH hS hRM (fun _ _ f1 f2 => va_runV (b := b1) (As := []) (rest := []) S (metX2_here zx2) (cwV 0 hts (lw_V q579 q581 qs4 q172 q582) rfl rfl rfl (by decide +kernel) ⟨(Nat.le_of_ble_eq_true rfl), (Nat.le_of_ble_eq_true rfl)⟩) (c_preV hG hH hS (ci := 2) rfl zb1) rfl rfl hl.1 (by rw [yb1]; rfl) (lv_room (Nat.le_of_ble_eq_true rfl)) dX2_takes_1 ⟨f1, f2⟩) (fun H locs hH hS => ?_)
  refine lv_iload_n hx hb dX2_takes_4 rfl (lv_at hl 1 rfl) ?_
  refine lv_icmp_ne (tgt := 12) hx hb dX2_takes_5 (by decide) (fun c3 => ?_) (fun c3 => ?_)
  · replace z := ie c3 z
    refine lv_iconst (v := (0 : Int32)) hx hb dX2_takes_12 (by decide) ?_
    exact wX2_takes_13 S hr hlk hnm hG hRM x2.1 (0 : Int32) z _ _ hH hS _ (lv_sub hl [0] rfl)
  replace z := it c3 z
  refine lv_iconst (v := (1 : Int32)) hx hb dX2_takes_8 (by decide) ?_
  refine lv_goto (tgt := 13) hx hb dX2_takes_9 (by decide) ?_
  exact wX2_takes_13 S hr hlk hnm hG hRM x2.1 (1 : Int32) z _ _ hH hS _ (lv_sub hl [0] rfl)
/-! FourOnOne$Test.<init>()V -/
def fX16_init (K : KE) (h : HS) (a0 : Nat) : Option (Unit) :=
  some ()
set_option maxHeartbeats 4000000 in
theorem metX16_init {l : Launch} {A : Nat → Prop} {D : va_G} {ac : Nat → ClassId} {K : KE} {h : HS} {a0 : Nat} {x : Unit} (z : fX16_init K h a0 = some x) : Met l yX16_init (ws_ yX16_init cX16_init 1 (none)) (rmC 2 40 K h) (cP A D ac K h [va_rf (some a0)]) (cQv A D ac K h) (K.2.2.1 - h.2.1) (K.2.2.2 - h.2.2) A := by
  refine c_entry (plainFor_of_name (by decide)) (Nat.le_of_ble_eq_true rfl) ?_
  intro p e s m below meth c S hr hlk hnm hG hRM hH hS ls hl
  replace hl : lv_has ls 1 [(0, va_rf (some a0))] := hl
  replace hnm : meth.name = "<init>" := hnm
  replace S : CallFix p m c cX16_init 1 s _ lw_all RX16 := S
  obtain ⟨hx, hb, hml, hown, hts⟩ := id S
  unfold fX16_init at z
  refine c_aload_n hx hb dX16_init_0 rfl (lv_at hl 0 rfl) ?_
  refine c_obj S q1196 q213 q214 hl.1 (Nat.le_of_ble_eq_true rfl) (Nat.le_of_ble_eq_true rfl) (Nat.le_of_ble_eq_true rfl) dX16_init_1 ?_
  exact c_vret' S hr hlk hH hS z dX16_init_4
/-! FourOnOne$Facts.<init>(Z)V -/
def fX17_init (K : KE) (h : HS) (a0 : Nat) (a1 : Int32) : Option (HS) :=
  (fX16_init K h a0).bind fun x1 =>
  (alc K h (.inr (19, df19)) 3).bind fun h2 =>
  (fJ2_init K h2 h.2.1 (2 : Int32)).bind fun x3 =>
  (pV x3 (some a0) 14 0 (va_rf (some h.2.1))).bind fun h4 =>
  (zr a1).bind fun g5 =>
  (pV h4 (some a0) 14 1 (.int a1)).bind fun h6 =>
  some h6
set_option maxHeartbeats 4000000 in
theorem metX17_init {l : Launch} {A : Nat → Prop} {D : va_G} {ac : Nat → ClassId} {K : KE} {h : HS} {a0 : Nat} {a1 : Int32} {x : HS} (z : fX17_init K h a0 a1 = some x) : Met l yX17_init (ws_ yX17_init cX17_init 2 (none)) (rmC 5 101 K h) (cP A D ac K h [va_rf (some a0), .int a1]) (cQv A D ac K x) (K.2.2.1 - h.2.1) (K.2.2.2 - h.2.2) A := by
  refine c_entry (plainFor_of_name (by decide)) (Nat.le_of_ble_eq_true rfl) ?_
  intro p e s m below meth c S hr hlk hnm hG hRM hH hS ls hl
  replace hl : lv_has ls 2 [(0, va_rf (some a0)), (1, .int a1)] := hl
  replace hnm : meth.name = "<init>" := hnm
  replace S : CallFix p m c cX17_init 2 s _ lw_all RX17 := S
  obtain ⟨hx, hb, hml, hown, hts⟩ := id S
  unfold fX17_init at z
  refine c_aload_n hx hb dX17_init_0 rfl (lv_at hl 0 rfl) ?_
  replace z := ob z
  obtain ⟨x1, zx1, z⟩ := z
  refine c_callv hH hS hRM (fun _ _ f1 f2 => va_runIN (b := a0) (As := []) (rest := []) S (metX16_init zx1) ⟨va_cnB 0 hts (lw_meth q1195) rfl rfl rfl (hG.2.1.2.1 _ _ _ _ q1193) (hts _ q200) (by decide +kernel) ⟨(Nat.le_of_ble_eq_true rfl), (Nat.le_of_ble_eq_true rfl)⟩, rfl, hts _ q1194⟩ (c_pre hG hH hS) rfl rfl hl.1 rfl (lv_room (Nat.le_of_ble_eq_true rfl)) dX17_init_1 ⟨f1, f2⟩) (fun H locs hH hS => ?_)
  refine c_aload_n hx hb dX17_init_4 rfl (lv_at hl 0 rfl) ?_
  replace z := ob z
  obtain ⟨h2, zh2, z⟩ := z
  refine c_new S hG hH hS hRM (ci := 19) rfl in_J2 tyJ2 tyJ2_ok q1197 q222 q171 df19_ok zh2 dX17_init_5 (fun H locs hH hS => ?_)
  refine lv_dup hx hb dX17_init_8 (ct_r _) ?_
  refine lv_iconst (v := (2 : Int32)) hx hb dX17_init_9 (by decide) ?_
  replace z := ob z
  obtain ⟨x3, zx3, z⟩ := z
  refine c_callv hH hS hRM (fun _ _ f1 f2 => va_runI (b := h.2.1) (As := [.int (2 : Int32)]) (rest := [va_rf (some h.2.1), va_rf (some a0)]) S (metJ2_init zx3) (cwI 1 hts (lw_meth q225) rfl rfl rfl (hts _ q171) (hts _ q1198) (hts _ q224) rfl (by decide +kernel) ⟨(Nat.le_of_ble_eq_true rfl), (Nat.le_of_ble_eq_true rfl)⟩) (c_pre hG hH hS) rfl rfl hl.1 rfl (lv_room (by simp [ct_r, ct_i, ct_l])) dX17_init_10 ⟨f1, f2⟩) (fun H locs hH hS => ?_)
  replace z := ob z
  obtain ⟨h4, zh4, z⟩ := z
  refine c_putF S hG hH hS (ci := 14) (k := 0) rfl in_X17 tyX17 tyX17_ok nmX17 (Nat.le_of_ble_eq_true rfl) q1199 (fun _ y => y) rfl hnm rfl (ty := .object "java/util/List") rfl (nr_o _) (ft_o _) zh4 dX17_init_13 (fun H locs hH hS => ?_)
  refine c_aload_n hx hb dX17_init_16 rfl (lv_at hl 0 rfl) ?_
  refine lv_iload_n hx hb dX17_init_17 rfl (lv_at hl 1 rfl) ?_
  replace z := ob z
  obtain ⟨g5, zg5, z⟩ := z
  obtain ⟨yg5, zg5, -⟩ := zr_e zg5
  replace z := ob z
  obtain ⟨h6, zh6, z⟩ := z
  refine c_putF S hG hH hS (ci := 14) (k := 1) rfl in_X17 tyX17 tyX17_ok nmX17 (Nat.le_of_ble_eq_true rfl) q1201 (fun _ y => y) rfl hnm rfl (ty := .boolean) rfl yg5 zg5 zh6 dX17_init_18 (fun H locs hH hS => ?_)
  exact c_vret S hr hlk hH hS z dX17_init_21
/-! FourOnOne$Not.<init>(LFourOnOne$Test;)V -/
def fX18_init (K : KE) (h : HS) (a0 : Nat) (a1 : Option Nat) : Option (HS) :=
  (fX16_init K h a0).bind fun x1 =>
  (pV h (some a0) 15 0 (va_rf a1)).bind fun h2 =>
  some h2
set_option maxHeartbeats 4000000 in
theorem metX18_init {l : Launch} {A : Nat → Prop} {D : va_G} {ac : Nat → ClassId} {K : KE} {h : HS} {a0 : Nat} {a1 : Option Nat} {x : HS} (z : fX18_init K h a0 a1 = some x) : Met l yX18_init (ws_ yX18_init cX18_init 2 (none)) (rmC 3 60 K h) (cP A D ac K h [va_rf (some a0), va_rf a1]) (cQv A D ac K x) (K.2.2.1 - h.2.1) (K.2.2.2 - h.2.2) A := by
  refine c_entry (plainFor_of_name (by decide)) (by simp [lg_sl, ct_r, ct_i, ct_l]) ?_
  intro p e s m below meth c S hr hlk hnm hG hRM hH hS ls hl
  replace hl : lv_has ls 2 [(0, va_rf (some a0)), (1, va_rf a1)] := (by simpa [lv_args, ct_r, ct_i, ct_l] using hl)
  replace hnm : meth.name = "<init>" := hnm
  replace S : CallFix p m c cX18_init 2 s _ lw_all RX18 := S
  obtain ⟨hx, hb, hml, hown, hts⟩ := id S
  unfold fX18_init at z
  refine c_aload_n hx hb dX18_init_0 rfl (lv_at hl 0 rfl) ?_
  replace z := ob z
  obtain ⟨x1, zx1, z⟩ := z
  refine c_callv hH hS hRM (fun _ _ f1 f2 => va_runIN (b := a0) (As := []) (rest := []) S (metX16_init zx1) ⟨va_cnB 0 hts (lw_meth q1195) rfl rfl rfl (hG.2.1.2.1 _ _ _ _ q1225) (hts _ q200) (by decide +kernel) ⟨(Nat.le_of_ble_eq_true rfl), (Nat.le_of_ble_eq_true rfl)⟩, rfl, hts _ q1194⟩ (c_pre hG hH hS) rfl rfl hl.1 rfl (lv_room (Nat.le_of_ble_eq_true rfl)) dX18_init_1 ⟨f1, f2⟩) (fun H locs hH hS => ?_)
  refine c_aload_n hx hb dX18_init_4 rfl (lv_at hl 0 rfl) ?_
  refine c_aload_n hx hb dX18_init_5 rfl (lv_at hl 1 rfl) ?_
  replace z := ob z
  obtain ⟨h2, zh2, z⟩ := z
  refine c_putF S hG hH hS (ci := 15) (k := 0) rfl in_X18 tyX18 tyX18_ok nmX18 (Nat.le_of_ble_eq_true rfl) q1226 (fun _ y => y) rfl hnm rfl (ty := .object "FourOnOne$Test") rfl (nr_o _) (ft_o _) zh2 dX18_init_6 (fun H locs hH hS => ?_)
  exact c_vret S hr hlk hH hS z dX18_init_9
/-! FourOnOne$All.<init>()V -/
def fX19_init (K : KE) (h : HS) (a0 : Nat) : Option (Unit) :=
  (fX16_init K h a0).bind fun x1 =>
  some ()
set_option maxHeartbeats 4000000 in
theorem metX19_init {l : Launch} {A : Nat → Prop} {D : va_G} {ac : Nat → ClassId} {K : KE} {h : HS} {a0 : Nat} {x : Unit} (z : fX19_init K h a0 = some x) : Met l yX19_init (ws_ yX19_init cX19_init 1 (none)) (rmC 3 60 K h) (cP A D ac K h [va_rf (some a0)]) (cQv A D ac K h) (K.2.2.1 - h.2.1) (K.2.2.2 - h.2.2) A := by
  refine c_entry (plainFor_of_name (by decide)) (Nat.le_of_ble_eq_true rfl) ?_
  intro p e s m below meth c S hr hlk hnm hG hRM hH hS ls hl
  replace hl : lv_has ls 1 [(0, va_rf (some a0))] := hl
  replace hnm : meth.name = "<init>" := hnm
  replace S : CallFix p m c cX19_init 1 s _ lw_all RX19 := S
  obtain ⟨hx, hb, hml, hown, hts⟩ := id S
  unfold fX19_init at z
  refine c_aload_n hx hb dX19_init_0 rfl (lv_at hl 0 rfl) ?_
  replace z := ob z
  obtain ⟨x1, zx1, z⟩ := z
  refine c_callv hH hS hRM (fun _ _ f1 f2 => va_runIN (b := a0) (As := []) (rest := []) S (metX16_init zx1) ⟨va_cnB 0 hts (lw_meth q1195) rfl rfl rfl (hG.2.1.2.1 _ _ _ _ q1236) (hts _ q200) (by decide +kernel) ⟨(Nat.le_of_ble_eq_true rfl), (Nat.le_of_ble_eq_true rfl)⟩, rfl, hts _ q1194⟩ (c_pre hG hH hS) rfl rfl hl.1 rfl (lv_room (Nat.le_of_ble_eq_true rfl)) dX19_init_1 ⟨f1, f2⟩) (fun H locs hH hS => ?_)
  exact c_vret' S hr hlk hH hS z dX19_init_4
/-! FourOnOne$Than.<init>(LFourOnOne$Value;ILFourOnOne$Value;)V -/
def fX20_init (K : KE) (h : HS) (a0 : Nat) (a1 : Option Nat) (a2 : Int32) (a3 : Option Nat) : Option (HS) :=
  (fX16_init K h a0).bind fun x1 =>
  (pV h (some a0) 17 0 (va_rf a1)).bind fun h2 =>
  (pV h2 (some a0) 17 2 (.int a2)).bind fun h3 =>
  (pV h3 (some a0) 17 1 (va_rf a3)).bind fun h4 =>
  some h4
set_option maxHeartbeats 4000000 in
theorem metX20_init {l : Launch} {A : Nat → Prop} {D : va_G} {ac : Nat → ClassId} {K : KE} {h : HS} {a0 : Nat} {a1 : Option Nat} {a2 : Int32} {a3 : Option Nat} {x : HS} (z : fX20_init K h a0 a1 a2 a3 = some x) : Met l yX20_init (ws_ yX20_init cX20_init 4 (none)) (rmC 3 60 K h) (cP A D ac K h [va_rf (some a0), va_rf a1, .int a2, va_rf a3]) (cQv A D ac K x) (K.2.2.1 - h.2.1) (K.2.2.2 - h.2.2) A := by
  refine c_entry (plainFor_of_name (by decide)) (by simp [lg_sl, ct_r, ct_i, ct_l]) ?_
  intro p e s m below meth c S hr hlk hnm hG hRM hH hS ls hl
  replace hl : lv_has ls 4 [(0, va_rf (some a0)), (1, va_rf a1), (2, .int a2), (3, va_rf a3)] := (by simpa [lv_args, ct_r, ct_i, ct_l] using hl)
  replace hnm : meth.name = "<init>" := hnm
  replace S : CallFix p m c cX20_init 4 s _ lw_all RX20 := S
  obtain ⟨hx, hb, hml, hown, hts⟩ := id S
  unfold fX20_init at z
  refine c_aload_n hx hb dX20_init_0 rfl (lv_at hl 0 rfl) ?_
  replace z := ob z
  obtain ⟨x1, zx1, z⟩ := z
  refine c_callv hH hS hRM (fun _ _ f1 f2 => va_runIN (b := a0) (As := []) (rest := []) S (metX16_init zx1) ⟨va_cnB 0 hts (lw_meth q1195) rfl rfl rfl (hG.2.1.2.1 _ _ _ _ q1243) (hts _ q200) (by decide +kernel) ⟨(Nat.le_of_ble_eq_true rfl), (Nat.le_of_ble_eq_true rfl)⟩, rfl, hts _ q1194⟩ (c_pre hG hH hS) rfl rfl hl.1 rfl (lv_room (Nat.le_of_ble_eq_true rfl)) dX20_init_1 ⟨f1, f2⟩) (fun H locs hH hS => ?_)
  refine c_aload_n hx hb dX20_init_4 rfl (lv_at hl 0 rfl) ?_
  refine c_aload_n hx hb dX20_init_5 rfl (lv_at hl 1 rfl) ?_
  replace z := ob z
  obtain ⟨h2, zh2, z⟩ := z
  refine c_putF S hG hH hS (ci := 17) (k := 0) rfl in_X20 tyX20 tyX20_ok nmX20 (Nat.le_of_ble_eq_true rfl) q1244 (fun _ y => y) rfl hnm rfl (ty := .object "FourOnOne$Value") rfl (nr_o _) (ft_o _) zh2 dX20_init_6 (fun H locs hH hS => ?_)
  refine c_aload_n hx hb dX20_init_9 rfl (lv_at hl 0 rfl) ?_
  refine lv_iload_n hx hb dX20_init_10 rfl (lv_at hl 2 rfl) ?_
  replace z := ob z
  obtain ⟨h3, zh3, z⟩ := z
  refine c_putF S hG hH hS (ci := 17) (k := 2) rfl in_X20 tyX20 tyX20_ok nmX20 (Nat.le_of_ble_eq_true rfl) q1246 (fun _ y => y) rfl hnm rfl (ty := .int) rfl rfl rfl zh3 dX20_init_11 (fun H locs hH hS => ?_)
  refine c_aload_n hx hb dX20_init_14 rfl (lv_at hl 0 rfl) ?_
  refine c_aload_n hx hb dX20_init_15 rfl (lv_at hl 3 rfl) ?_
  replace z := ob z
  obtain ⟨h4, zh4, z⟩ := z
  refine c_putF S hG hH hS (ci := 17) (k := 1) rfl in_X20 tyX20 tyX20_ok nmX20 (Nat.le_of_ble_eq_true rfl) q1245 (fun _ y => y) rfl hnm rfl (ty := .object "FourOnOne$Value") rfl (nr_o _) (ft_o _) zh4 dX20_init_16 (fun H locs hH hS => ?_)
  exact c_vret S hr hlk hH hS z dX20_init_19
/-! FourOnOne$Named.find(Ljava/util/List;Ljava/lang/String;)I -/
def fX7_find_2 (K : KE) (h : HS) : Nat → Option Nat → Option Nat → Int32 → Option (Int32)
  | 0, _, _, _ => none
  | n + 1, a0, a1, a2 =>
    (rcv K h a0 19).bind fun b1 =>
    (fJ2_size K h b1).bind fun x2 =>
    if x2 ≤ a2 then
      some (-1 : Int32)
    else
    (rcv K h a0 19).bind fun b4 =>
    (fJ2_get K h b4 a2).bind fun x5 =>
    (ckL K h x5 [6, 7, 8]).bind fun u6 =>
    (gNm K h x5).bind fun v7 =>
    (rcv K h v7 20).bind fun b8 =>
    (fJ6_equals K h b8 a1).bind fun x9 =>
    if x9 = 0 then
      fX7_find_2 K h n a0 a1 (a2 + (1 : Int32))
    else
    some a2
def fX7_find (K : KE) (h : HS) (a0 : Option Nat) (a1 : Option Nat) : Option (Int32) :=
  fX7_find_2 K h FU a0 a1 (0 : Int32)
set_option maxHeartbeats 4000000 in
theorem wX7_find_2 {p : Program} {l : Launch} {e : Env} {s : State} {m : MethodId} {args : Array Value} {below : List Frame} {meth : Method} {c : Code} {A : Nat → Prop} {D : va_G} {ac : Nat → ClassId} {K : KE} {h : HS} (S : CallFix p m c cX7_find 3 s args lw_all RX7) (hr : meth.sig.returnType = some .int) (hlk : meth.locks = false) (hnm : meth.name = "find") (hG : GK A D ac K s) (hRM : RM K s (rmC 4 64 K h)) {x : Int32} : ∀ (n : Nat) (a0 : Option Nat) (a1 : Option Nat) (a2 : Int32), fX7_find_2 K h n a0 a1 a2 = some x → cGo p l e (rmC 4 64 K h) s m args below meth c A D ac K (MQ below (cQi A D ac K (h, x)) args s (K.2.2.1 - h.2.1) (K.2.2.2 - h.2.2) A) 3 2 [(0, va_rf a0), (1, va_rf a1), (2, .int a2)] [] h := by
  obtain ⟨hx, hb, hml, hown, hts⟩ := id S
  intro n
  induction n with
  | zero => intro a0 a1 a2 z; cases z
  | succ n ih =>
    intro a0 a1 a2 z H locs hH hS ls hl
    rw [fX7_find_2] at z
    refine lv_iload_n hx hb dX7_find_2 rfl (lv_at hl 2 rfl) ?_
    refine c_aload_n hx hb dX7_find_3 rfl (lv_at hl 0 rfl) ?_
    replace z := ob z
    obtain ⟨b1, zb1, z⟩ := z
    obtain ⟨yb1, zb1⟩ := rcv_e zb1
    replace z := ob z
    obtain ⟨x2, zx2, z⟩ := z
    refine c_callFi hH hS hRM (fun _ _ f1 f2 => va_runF (b := b1) (As := []) (rest := [.int a2]) (hG.1.1 19 _ rfl).2 S (metJ2_size zx2) (va_cwF 0 hts (lw_app (lw_l4 q798 q761 q763 q171) (lw_meth q765)) rfl rfl rfl hG.2.2.2.2.1.1 (by decide +kernel) ⟨(Nat.le_of_ble_eq_true rfl), (Nat.le_of_ble_eq_true rfl)⟩) (c_preV hG hH hS (ci := 19) rfl zb1) rfl rfl hl.1 (by rw [yb1]; rfl) (lv_room (Nat.le_of_ble_eq_true rfl)) dX7_find_4 ⟨f1, f2⟩) (fun H locs hH hS => ?_)
    refine lv_icmp_ge (tgt := 40) hx hb dX7_find_9 (by decide) (fun c3 => ?_) (fun c3 => ?_)
    · replace z := it c3 z
      refine lv_iconst (v := (-1 : Int32)) hx hb dX7_find_40 (by decide) ?_
      exact c_iret' S hr hlk rfl hH hS z dX7_find_41
    replace z := ie c3 z
    refine c_aload_n hx hb dX7_find_12 rfl (lv_at hl 0 rfl) ?_
    refine lv_iload_n hx hb dX7_find_13 rfl (lv_at hl 2 rfl) ?_
    replace z := ob z
    obtain ⟨b4, zb4, z⟩ := z
    obtain ⟨yb4, zb4⟩ := rcv_e zb4
    replace z := ob z
    obtain ⟨x5, zx5, z⟩ := z
    refine c_callFq hH hS hRM (fun _ _ f1 f2 => va_runF (b := b4) (As := [.int a2]) (rest := []) (hG.1.1 19 _ rfl).2 S (metJ2_get zx5) (va_cwF 1 hts (lw_app (lw_l4 q800 q803 q805 q171) (lw_meth q807)) rfl rfl rfl hG.2.2.2.2.1.2.1 (by decide +kernel) ⟨(Nat.le_of_ble_eq_true rfl), (Nat.le_of_ble_eq_true rfl)⟩) (c_preV hG hH hS (ci := 19) rfl zb4) rfl rfl hl.1 (by rw [yb4]; rfl) (lv_room (Nat.le_of_ble_eq_true rfl)) dX7_find_14 ⟨f1, f2⟩) (fun H locs hH hS => ?_)
    replace z := ob z
    obtain ⟨u6, zu6, z⟩ := z
    refine c_castL S hG hH q818 [6, 7, 8] cast_Named zu6 dX7_find_19 ?_
    replace z := ob z
    obtain ⟨v7, zv7, z⟩ := z
    refine c_getNm S hG hH q824 zv7 dX7_find_22 ?_
    refine c_aload_n hx hb dX7_find_25 rfl (lv_at hl 1 rfl) ?_
    replace z := ob z
    obtain ⟨b8, zb8, z⟩ := z
    obtain ⟨yb8, zb8⟩ := rcv_e zb8
    replace z := ob z
    obtain ⟨x9, zx9, z⟩ := z
    refine c_calli hH hS hRM (fun _ _ f1 f2 => va_runV (b := b8) (As := [va_rf a1]) (rest := []) S (metJ6_equals zx9) (cwV 1 hts (lw_V q819 q746 q747 q180 q748) rfl rfl rfl (by decide +kernel) ⟨(Nat.le_of_ble_eq_true rfl), (Nat.le_of_ble_eq_true rfl)⟩) (c_preV hG hH hS (ci := 20) rfl zb8) rfl rfl hl.1 (by rw [yb8]; rfl) (lv_room (Nat.le_of_ble_eq_true rfl)) dX7_find_26 ⟨f1, f2⟩) (fun H locs hH hS => ?_)
    refine lv_if_eq (tgt := 34) hx hb dX7_find_29 (by decide) (fun c10 => ?_) (fun c10 => ?_)
    rotate_left 1
    · replace z := ie c10 z
      refine lv_iload_n hx hb dX7_find_32 rfl (lv_at hl 2 rfl) ?_
      exact c_iret' S hr hlk rfl hH hS z dX7_find_33
    replace z := it c10 z
    refine lv_iinc (v := (a2 + (1 : Int32))) (lv' := [(2, .int (a2 + (1 : Int32))), (0, va_rf a0), (1, va_rf a1)]) hx hb dX7_find_34 hl (k := 2) rfl rfl (by decide) (by simp [List.filter, ct_r]) (fun ls hl => ?_)
    refine lv_goto (tgt := 2) hx hb dX7_find_37 (by decide) ?_
    exact ih a0 a1 (a2 + (1 : Int32)) z _ _ hH hS _ (lv_sub hl [1, 2, 0] rfl)
set_option maxHeartbeats 4000000 in
theorem metX7_find {l : Launch} {A : Nat → Prop} {D : va_G} {ac : Nat → ClassId} {K : KE} {h : HS} {a0 : Option Nat} {a1 : Option Nat} {x : Int32} (z : fX7_find K h a0 a1 = some x) : Met l yX7_find (ws_ yX7_find cX7_find 3 (some .int)) (rmC 4 64 K h) (cP A D ac K h [va_rf a0, va_rf a1]) (cQi A D ac K (h, x)) (K.2.2.1 - h.2.1) (K.2.2.2 - h.2.2) A := by
  refine c_entry (plainFor_of_name (by decide)) (by simp [lg_sl, ct_r, ct_i, ct_l]) ?_
  intro p e s m below meth c S hr hlk hnm hG hRM hH hS ls hl
  replace hl : lv_has ls 3 [(0, va_rf a0), (1, va_rf a1)] := (by simpa [lv_args, ct_r, ct_i, ct_l] using hl)
  replace hnm : meth.name = "find" := hnm
  replace S : CallFix p m c cX7_find 3 s _ lw_all RX7 := S
  obtain ⟨hx, hb, hml, hown, hts⟩ := id S
  unfold fX7_find at z
  refine lv_iconst (v := (0 : Int32)) hx hb dX7_find_0 (by decide) ?_
  refine lv_istore_n (i := 2) (lv' := [(2, .int (0 : Int32)), (0, va_rf a0), (1, va_rf a1)]) hx hb dX7_find_1 rfl hl (by decide) (by simp [List.filter, ct_r, ct_i, ct_l]) (fun ls hl => ?_)
  exact wX7_find_2 S hr hlk hnm hG hRM FU a0 a1 (0 : Int32) z _ _ hH hS _ (lv_sub hl [1, 2, 0] rfl)
/-! FourOnOne$House.isNamed(Ljava/lang/String;)Z -/
def fX1_isNamed_36 (K : KE) (h : HS) (a0 : Nat) : Option (Int32) :=
  some (1 : Int32)
def fX1_isNamed (K : KE) (h : HS) (a0 : Nat) (a1 : Option Nat) : Option (Int32) :=
  (gR K h (some a0) 1 6).bind fun v1 =>
  (fX7_find K h v1 a1).bind fun x2 =>
  if x2 = (-1 : Int32) then
    (gR K h (some a0) 1 7).bind fun v4 =>
    (fX7_find K h v4 a1).bind fun x5 =>
    if x5 = (-1 : Int32) then
      (gR K h (some a0) 1 8).bind fun v7 =>
      (fX7_find K h v7 a1).bind fun x8 =>
      if x8 = (-1 : Int32) then
        some (0 : Int32)
      else
      fX1_isNamed_36 K h a0
    else
    fX1_isNamed_36 K h a0
  else
  fX1_isNamed_36 K h a0
set_option maxHeartbeats 4000000 in
theorem wX1_isNamed_36 {p : Program} {l : Launch} {e : Env} {s : State} {m : MethodId} {args : Array Value} {below : List Frame} {meth : Method} {c : Code} {A : Nat → Prop} {D : va_G} {ac : Nat → ClassId} {K : KE} {h : HS} {a0 : Nat} (S : CallFix p m c cX1_isNamed 2 s args lw_all RX1) (hr : meth.sig.returnType = some .boolean) (hlk : meth.locks = false) (hnm : meth.name = "isNamed") (hG : GK A D ac K s) (hRM : RM K s (rmC 5 86 K h)) {x : Int32} : fX1_isNamed_36 K h a0 = some x → cGo p l e (rmC 5 86 K h) s m args below meth c A D ac K (MQ below (cQi A D ac K (h, x)) args s (K.2.2.1 - h.2.1) (K.2.2.2 - h.2.2) A) 2 36 [(0, va_rf (some a0))] [] h := by
  obtain ⟨hx, hb, hml, hown, hts⟩ := id S
  intro  z H locs hH hS ls hl
  unfold fX1_isNamed_36 at z
  refine lv_iconst (v := (1 : Int32)) hx hb dX1_isNamed_36 (by decide) ?_
  refine lv_goto (tgt := 41) hx hb dX1_isNamed_37 (by decide) ?_
  exact c_iret' S hr hlk rfl hH hS z dX1_isNamed_41
set_option maxHeartbeats 4000000 in
theorem metX1_isNamed {l : Launch} {A : Nat → Prop} {D : va_G} {ac : Nat → ClassId} {K : KE} {h : HS} {a0 : Nat} {a1 : Option Nat} {x : Int32} (z : fX1_isNamed K h a0 a1 = some x) : Met l yX1_isNamed (ws_ yX1_isNamed cX1_isNamed 2 (some .boolean)) (rmC 5 86 K h) (cP A D ac K h [va_rf (some a0), va_rf a1]) (cQi A D ac K (h, x)) (K.2.2.1 - h.2.1) (K.2.2.2 - h.2.2) A := by
  refine c_entry (plainFor_of_name (by decide)) (by simp [lg_sl, ct_r, ct_i, ct_l]) ?_
  intro p e s m below meth c S hr hlk hnm hG hRM hH hS ls hl
  replace hl : lv_has ls 2 [(0, va_rf (some a0)), (1, va_rf a1)] := (by simpa [lv_args, ct_r, ct_i, ct_l] using hl)
  replace hnm : meth.name = "isNamed" := hnm
  replace S : CallFix p m c cX1_isNamed 2 s _ lw_all RX1 := S
  obtain ⟨hx, hb, hml, hown, hts⟩ := id S
  unfold fX1_isNamed at z
  refine c_aload_n hx hb dX1_isNamed_0 rfl (lv_at hl 0 rfl) ?_
  replace z := ob z
  obtain ⟨v1, zv1, z⟩ := z
  obtain ⟨fsv1, yv1, zv1⟩ := gR_e zv1
  refine c_get S hG hH (ci := 1) (k := 6) rfl in_X1 (Nat.le_of_ble_eq_true rfl) q263 (fun _ y => y) yv1 zv1 dX1_isNamed_1 ?_
  refine c_aload_n hx hb dX1_isNamed_4 rfl (lv_at hl 1 rfl) ?_
  replace z := ob z
  obtain ⟨x2, zx2, z⟩ := z
  refine c_calli hH hS hRM (fun _ _ f1 f2 => va_runS (As := [va_rf v1, va_rf a1]) (rest := []) S (metX7_find zx2) (va_cwS 2 hts (lw_S q794 q795 q185 q796) rfl rfl rfl (by decide +kernel) ⟨(Nat.le_of_ble_eq_true rfl), (Nat.le_of_ble_eq_true rfl)⟩) (c_pre hG hH hS) rfl rfl hl.1 rfl (lv_room (Nat.le_of_ble_eq_true rfl)) dX1_isNamed_5 ⟨f1, f2⟩) (fun H locs hH hS => ?_)
  refine lv_iconst (v := (-1 : Int32)) hx hb dX1_isNamed_8 (by decide) ?_
  refine lv_icmp_ne (tgt := 36) hx hb dX1_isNamed_9 (by decide) (fun c3 => ?_) (fun c3 => ?_)
  · replace z := ie c3 z
    exact wX1_isNamed_36 S hr hlk hnm hG hRM z _ _ hH hS _ (lv_sub hl [0] rfl)
  replace z := it c3 z
  refine c_aload_n hx hb dX1_isNamed_12 rfl (lv_at hl 0 rfl) ?_
  replace z := ob z
  obtain ⟨v4, zv4, z⟩ := z
  obtain ⟨fsv4, yv4, zv4⟩ := gR_e zv4
  refine c_get S hG hH (ci := 1) (k := 7) rfl in_X1 (Nat.le_of_ble_eq_true rfl) q266 (fun _ y => y) yv4 zv4 dX1_isNamed_13 ?_
  refine c_aload_n hx hb dX1_isNamed_16 rfl (lv_at hl 1 rfl) ?_
  replace z := ob z
  obtain ⟨x5, zx5, z⟩ := z
  refine c_calli hH hS hRM (fun _ _ f1 f2 => va_runS (As := [va_rf v4, va_rf a1]) (rest := []) S (metX7_find zx5) (va_cwS 2 hts (lw_S q794 q795 q185 q796) rfl rfl rfl (by decide +kernel) ⟨(Nat.le_of_ble_eq_true rfl), (Nat.le_of_ble_eq_true rfl)⟩) (c_pre hG hH hS) rfl rfl hl.1 rfl (lv_room (Nat.le_of_ble_eq_true rfl)) dX1_isNamed_17 ⟨f1, f2⟩) (fun H locs hH hS => ?_)
  refine lv_iconst (v := (-1 : Int32)) hx hb dX1_isNamed_20 (by decide) ?_
  refine lv_icmp_ne (tgt := 36) hx hb dX1_isNamed_21 (by decide) (fun c6 => ?_) (fun c6 => ?_)
  · replace z := ie c6 z
    exact wX1_isNamed_36 S hr hlk hnm hG hRM z _ _ hH hS _ (lv_sub hl [0] rfl)
  replace z := it c6 z
  refine c_aload_n hx hb dX1_isNamed_24 rfl (lv_at hl 0 rfl) ?_
  replace z := ob z
  obtain ⟨v7, zv7, z⟩ := z
  obtain ⟨fsv7, yv7, zv7⟩ := gR_e zv7
  refine c_get S hG hH (ci := 1) (k := 8) rfl in_X1 (Nat.le_of_ble_eq_true rfl) q269 (fun _ y => y) yv7 zv7 dX1_isNamed_25 ?_
  refine c_aload_n hx hb dX1_isNamed_28 rfl (lv_at hl 1 rfl) ?_
  replace z := ob z
  obtain ⟨x8, zx8, z⟩ := z
  refine c_calli hH hS hRM (fun _ _ f1 f2 => va_runS (As := [va_rf v7, va_rf a1]) (rest := []) S (metX7_find zx8) (va_cwS 2 hts (lw_S q794 q795 q185 q796) rfl rfl rfl (by decide +kernel) ⟨(Nat.le_of_ble_eq_true rfl), (Nat.le_of_ble_eq_true rfl)⟩) (c_pre hG hH hS) rfl rfl hl.1 rfl (lv_room (Nat.le_of_ble_eq_true rfl)) dX1_isNamed_29 ⟨f1, f2⟩) (fun H locs hH hS => ?_)
  refine lv_iconst (v := (-1 : Int32)) hx hb dX1_isNamed_32 (by decide) ?_
  refine lv_icmp_eq (tgt := 40) hx hb dX1_isNamed_33 (by decide) (fun c9 => ?_) (fun c9 => ?_)
  rotate_left 1
  · replace z := ie c9 z
    exact wX1_isNamed_36 S hr hlk hnm hG hRM z _ _ hH hS _ (lv_sub hl [0] rfl)
  replace z := it c9 z
  refine lv_iconst (v := (0 : Int32)) hx hb dX1_isNamed_40 (by decide) ?_
  exact c_iret' S hr hlk rfl hH hS z dX1_isNamed_41
/-! FourOnOne$Named.<init>(Ljava/lang/String;)V -/
def fX7_init_c7 (K : KE) (h : HS) (a0 : Nat) (a1 : Option Nat) : Option (HS) :=
  (pV h (some a0) 7 0 (va_rf a1)).bind fun h1 =>
  some h1
set_option maxHeartbeats 4000000 in
theorem metX7_init_c7 {l : Launch} {A : Nat → Prop} {D : va_G} {ac : Nat → ClassId} {K : KE} {h : HS} {a0 : Nat} {a1 : Option Nat} {x : HS} (z : fX7_init_c7 K h a0 a1 = some x) : Met l yX7_init (ws_ yX7_init cX7_init 2 (none)) (rmC 2 40 K h) (cP A D ac K h [va_rf (some a0), va_rf a1]) (cQv A D ac K x) (K.2.2.1 - h.2.1) (K.2.2.2 - h.2.2) A := by
  refine c_entry (plainFor_of_name (by decide)) (by simp [lg_sl, ct_r, ct_i, ct_l]) ?_
  intro p e s m below meth c S hr hlk hnm hG hRM hH hS ls hl
  replace hl : lv_has ls 2 [(0, va_rf (some a0)), (1, va_rf a1)] := (by simpa [lv_args, ct_r, ct_i, ct_l] using hl)
  replace hnm : meth.name = "<init>" := hnm
  replace S : CallFix p m c cX7_init 2 s _ lw_all RX7 := S
  obtain ⟨hx, hb, hml, hown, hts⟩ := id S
  unfold fX7_init_c7 at z
  refine c_aload_n hx hb dX7_init_0 rfl (lv_at hl 0 rfl) ?_
  refine c_obj S q823 q213 q214 hl.1 (Nat.le_of_ble_eq_true rfl) (Nat.le_of_ble_eq_true rfl) (Nat.le_of_ble_eq_true rfl) dX7_init_1 ?_
  refine c_aload_n hx hb dX7_init_4 rfl (lv_at hl 0 rfl) ?_
  refine c_aload_n hx hb dX7_init_5 rfl (lv_at hl 1 rfl) ?_
  replace z := ob z
  obtain ⟨h1, zh1, z⟩ := z
  refine c_putF S hG hH hS (ci := 7) (k := 0) rfl in_X8 tyX8 tyX8_ok nmX8 (Nat.le_of_ble_eq_true rfl) q824 (fun _ y => y) rfl hnm rfl (ty := .object "java/lang/String") rfl (nr_o _) (ft_o _) zh1 dX7_init_6 (fun H locs hH hS => ?_)
  exact c_vret S hr hlk hH hS z dX7_init_9
/-! FourOnOne$Film.<init>(Ljava/lang/String;I)V -/
def fX8_init (K : KE) (h : HS) (a0 : Nat) (a1 : Option Nat) (a2 : Int32) : Option (HS) :=
  (fX7_init_c7 K h a0 a1).bind fun x1 =>
  (nA K x1 0 (.inl (fun _ => 0)) (6 : Int32)).bind fun h2 =>
  (pV h2 (some a0) 7 2 (va_rf (some x1.2.1))).bind fun h3 =>
  (pV h3 (some a0) 7 1 (.int a2)).bind fun h4 =>
  some h4
set_option maxHeartbeats 4000000 in
theorem metX8_init {l : Launch} {A : Nat → Prop} {D : va_G} {ac : Nat → ClassId} {K : KE} {h : HS} {a0 : Nat} {a1 : Option Nat} {a2 : Int32} {x : HS} (z : fX8_init K h a0 a1 a2 = some x) : Met l yX8_init (ws_ yX8_init cX8_init 3 (none)) (rmC 3 61 K h) (cP A D ac K h [va_rf (some a0), va_rf a1, .int a2]) (cQv A D ac K x) (K.2.2.1 - h.2.1) (K.2.2.2 - h.2.2) A := by
  refine c_entry (plainFor_of_name (by decide)) (by simp [lg_sl, ct_r, ct_i, ct_l]) ?_
  intro p e s m below meth c S hr hlk hnm hG hRM hH hS ls hl
  replace hl : lv_has ls 3 [(0, va_rf (some a0)), (1, va_rf a1), (2, .int a2)] := (by simpa [lv_args, ct_r, ct_i, ct_l] using hl)
  replace hnm : meth.name = "<init>" := hnm
  replace S : CallFix p m c cX8_init 3 s _ lw_all RX8 := S
  obtain ⟨hx, hb, hml, hown, hts⟩ := id S
  unfold fX8_init at z
  refine c_aload_n hx hb dX8_init_0 rfl (lv_at hl 0 rfl) ?_
  refine c_aload_n hx hb dX8_init_1 rfl (lv_at hl 1 rfl) ?_
  replace z := ob z
  obtain ⟨x1, zx1, z⟩ := z
  refine c_callv hH hS hRM (fun _ _ f1 f2 => va_runI (b := a0) (As := [va_rf a1]) (rest := []) S (metX7_init_c7 zx1) (cwI 1 hts (lw_meth q822) rfl rfl rfl (hts _ q185) (hts _ q929) (hts _ q821) rfl (by decide +kernel) ⟨(Nat.le_of_ble_eq_true rfl), (Nat.le_of_ble_eq_true rfl)⟩) (c_pre hG hH hS) rfl rfl hl.1 rfl (lv_room (Nat.le_of_ble_eq_true rfl)) dX8_init_2 ⟨f1, f2⟩) (fun H locs hH hS => ?_)
  refine c_aload_n hx hb dX8_init_5 rfl (lv_at hl 0 rfl) ?_
  refine lv_bipush (v := (6 : Int32)) hx hb dX8_init_6 (by decide) ?_
  replace z := ob z
  obtain ⟨h2, zh2, z⟩ := z
  refine c_newa S hG hH hS hRM 0 (atype := .int) (ty := .int) rfl rfl (fun y => y) (by decide) q473 (fun _ => rfl) zh2 dX8_init_8 (fun H locs hH hS => ?_)
  replace z := ob z
  obtain ⟨h3, zh3, z⟩ := z
  refine c_putF S hG hH hS (ci := 7) (k := 2) rfl in_X8 tyX8 tyX8_ok nmX8 (Nat.le_of_ble_eq_true rfl) q933 (fun _ y => y) rfl hnm rfl (ty := .array .int) rfl (nr_a _) (ft_a _) zh3 dX8_init_10 (fun H locs hH hS => ?_)
  refine c_aload_n hx hb dX8_init_13 rfl (lv_at hl 0 rfl) ?_
  refine lv_iload_n hx hb dX8_init_14 rfl (lv_at hl 2 rfl) ?_
  replace z := ob z
  obtain ⟨h4, zh4, z⟩ := z
  refine c_putF S hG hH hS (ci := 7) (k := 1) rfl in_X8 tyX8 tyX8_ok nmX8 (Nat.le_of_ble_eq_true rfl) q930 (fun _ y => y) rfl hnm rfl (ty := .int) rfl rfl rfl zh4 dX8_init_15 (fun H locs hH hS => ?_)
  exact c_vret S hr hlk hH hS z dX8_init_18
/-! FourOnOne$Named.<init>(Ljava/lang/String;)V -/
def fX7_init_c6 (K : KE) (h : HS) (a0 : Nat) (a1 : Option Nat) : Option (HS) :=
  (pV h (some a0) 6 0 (va_rf a1)).bind fun h1 =>
  some h1
set_option maxHeartbeats 4000000 in
theorem metX7_init_c6 {l : Launch} {A : Nat → Prop} {D : va_G} {ac : Nat → ClassId} {K : KE} {h : HS} {a0 : Nat} {a1 : Option Nat} {x : HS} (z : fX7_init_c6 K h a0 a1 = some x) : Met l yX7_init (ws_ yX7_init cX7_init 2 (none)) (rmC 2 40 K h) (cP A D ac K h [va_rf (some a0), va_rf a1]) (cQv A D ac K x) (K.2.2.1 - h.2.1) (K.2.2.2 - h.2.2) A := by
  refine c_entry (plainFor_of_name (by decide)) (by simp [lg_sl, ct_r, ct_i, ct_l]) ?_
  intro p e s m below meth c S hr hlk hnm hG hRM hH hS ls hl
  replace hl : lv_has ls 2 [(0, va_rf (some a0)), (1, va_rf a1)] := (by simpa [lv_args, ct_r, ct_i, ct_l] using hl)
  replace hnm : meth.name = "<init>" := hnm
  replace S : CallFix p m c cX7_init 2 s _ lw_all RX7 := S
  obtain ⟨hx, hb, hml, hown, hts⟩ := id S
  unfold fX7_init_c6 at z
  refine c_aload_n hx hb dX7_init_0 rfl (lv_at hl 0 rfl) ?_
  refine c_obj S q823 q213 q214 hl.1 (Nat.le_of_ble_eq_true rfl) (Nat.le_of_ble_eq_true rfl) (Nat.le_of_ble_eq_true rfl) dX7_init_1 ?_
  refine c_aload_n hx hb dX7_init_4 rfl (lv_at hl 0 rfl) ?_
  refine c_aload_n hx hb dX7_init_5 rfl (lv_at hl 1 rfl) ?_
  replace z := ob z
  obtain ⟨h1, zh1, z⟩ := z
  refine c_putF S hG hH hS (ci := 6) (k := 0) rfl in_X7 tyX7 tyX7_ok nmX7 (Nat.le_of_ble_eq_true rfl) q824 (fun _ y => y) rfl hnm rfl (ty := .object "java/lang/String") rfl (nr_o _) (ft_o _) zh1 dX7_init_6 (fun H locs hH hS => ?_)
  exact c_vret S hr hlk hH hS z dX7_init_9
/-! FourOnOne$Named.<init>(Ljava/lang/String;)V -/
def fX7_init_c8 (K : KE) (h : HS) (a0 : Nat) (a1 : Option Nat) : Option (HS) :=
  (pV h (some a0) 8 0 (va_rf a1)).bind fun h1 =>
  some h1
set_option maxHeartbeats 4000000 in
theorem metX7_init_c8 {l : Launch} {A : Nat → Prop} {D : va_G} {ac : Nat → ClassId} {K : KE} {h : HS} {a0 : Nat} {a1 : Option Nat} {x : HS} (z : fX7_init_c8 K h a0 a1 = some x) : Met l yX7_init (ws_ yX7_init cX7_init 2 (none)) (rmC 2 40 K h) (cP A D ac K h [va_rf (some a0), va_rf a1]) (cQv A D ac K x) (K.2.2.1 - h.2.1) (K.2.2.2 - h.2.2) A := by
  refine c_entry (plainFor_of_name (by decide)) (by simp [lg_sl, ct_r, ct_i, ct_l]) ?_
  intro p e s m below meth c S hr hlk hnm hG hRM hH hS ls hl
  replace hl : lv_has ls 2 [(0, va_rf (some a0)), (1, va_rf a1)] := (by simpa [lv_args, ct_r, ct_i, ct_l] using hl)
  replace hnm : meth.name = "<init>" := hnm
  replace S : CallFix p m c cX7_init 2 s _ lw_all RX7 := S
  obtain ⟨hx, hb, hml, hown, hts⟩ := id S
  unfold fX7_init_c8 at z
  refine c_aload_n hx hb dX7_init_0 rfl (lv_at hl 0 rfl) ?_
  refine c_obj S q823 q213 q214 hl.1 (Nat.le_of_ble_eq_true rfl) (Nat.le_of_ble_eq_true rfl) (Nat.le_of_ble_eq_true rfl) dX7_init_1 ?_
  refine c_aload_n hx hb dX7_init_4 rfl (lv_at hl 0 rfl) ?_
  refine c_aload_n hx hb dX7_init_5 rfl (lv_at hl 1 rfl) ?_
  replace z := ob z
  obtain ⟨h1, zh1, z⟩ := z
  refine c_putF S hG hH hS (ci := 8) (k := 0) rfl in_X9 tyX9 tyX9_ok nmX9 (Nat.le_of_ble_eq_true rfl) q824 (fun _ y => y) rfl hnm rfl (ty := .object "java/lang/String") rfl (nr_o _) (ft_o _) zh1 dX7_init_6 (fun H locs hH hS => ?_)
  exact c_vret S hr hlk hH hS z dX7_init_9
/-! FourOnOne$Person.<init>(Ljava/lang/String;II)V -/
def fX9_init (K : KE) (h : HS) (a0 : Nat) (a1 : Option Nat) (a2 : Int32) (a3 : Int32) : Option (HS) :=
  (fX7_init_c8 K h a0 a1).bind fun x1 =>
  (nA K x1 0 (.inl (fun _ => 0)) (6 : Int32)).bind fun h2 =>
  (pV h2 (some a0) 8 3 (va_rf (some x1.2.1))).bind fun h3 =>
  (pV h3 (some a0) 8 1 (.int a2)).bind fun h4 =>
  (pV h4 (some a0) 8 2 (.int a3)).bind fun h5 =>
  some h5
set_option maxHeartbeats 4000000 in
theorem metX9_init {l : Launch} {A : Nat → Prop} {D : va_G} {ac : Nat → ClassId} {K : KE} {h : HS} {a0 : Nat} {a1 : Option Nat} {a2 : Int32} {a3 : Int32} {x : HS} (z : fX9_init K h a0 a1 a2 a3 = some x) : Met l yX9_init (ws_ yX9_init cX9_init 4 (none)) (rmC 3 61 K h) (cP A D ac K h [va_rf (some a0), va_rf a1, .int a2, .int a3]) (cQv A D ac K x) (K.2.2.1 - h.2.1) (K.2.2.2 - h.2.2) A := by
  refine c_entry (plainFor_of_name (by decide)) (by simp [lg_sl, ct_r, ct_i, ct_l]) ?_
  intro p e s m below meth c S hr hlk hnm hG hRM hH hS ls hl
  replace hl : lv_has ls 4 [(0, va_rf (some a0)), (1, va_rf a1), (2, .int a2), (3, .int a3)] := (by simpa [lv_args, ct_r, ct_i, ct_l] using hl)
  replace hnm : meth.name = "<init>" := hnm
  replace S : CallFix p m c cX9_init 4 s _ lw_all RX9 := S
  obtain ⟨hx, hb, hml, hown, hts⟩ := id S
  unfold fX9_init at z
  refine c_aload_n hx hb dX9_init_0 rfl (lv_at hl 0 rfl) ?_
  refine c_aload_n hx hb dX9_init_1 rfl (lv_at hl 1 rfl) ?_
  replace z := ob z
  obtain ⟨x1, zx1, z⟩ := z
  refine c_callv hH hS hRM (fun _ _ f1 f2 => va_runI (b := a0) (As := [va_rf a1]) (rest := []) S (metX7_init_c8 zx1) (cwI 1 hts (lw_meth q822) rfl rfl rfl (hts _ q185) (hts _ q956) (hts _ q821) rfl (by decide +kernel) ⟨(Nat.le_of_ble_eq_true rfl), (Nat.le_of_ble_eq_true rfl)⟩) (c_pre hG hH hS) rfl rfl hl.1 rfl (lv_room (Nat.le_of_ble_eq_true rfl)) dX9_init_2 ⟨f1, f2⟩) (fun H locs hH hS => ?_)
  refine c_aload_n hx hb dX9_init_5 rfl (lv_at hl 0 rfl) ?_
  refine lv_bipush (v := (6 : Int32)) hx hb dX9_init_6 (by decide) ?_
  replace z := ob z
  obtain ⟨h2, zh2, z⟩ := z
  refine c_newa S hG hH hS hRM 0 (atype := .int) (ty := .int) rfl rfl (fun y => y) (by decide) q473 (fun _ => rfl) zh2 dX9_init_8 (fun H locs hH hS => ?_)
  replace z := ob z
  obtain ⟨h3, zh3, z⟩ := z
  refine c_putF S hG hH hS (ci := 8) (k := 3) rfl in_X9 tyX9 tyX9_ok nmX9 (Nat.le_of_ble_eq_true rfl) q961 (fun _ y => y) rfl hnm rfl (ty := .array .int) rfl (nr_a _) (ft_a _) zh3 dX9_init_10 (fun H locs hH hS => ?_)
  refine c_aload_n hx hb dX9_init_13 rfl (lv_at hl 0 rfl) ?_
  refine lv_iload_n hx hb dX9_init_14 rfl (lv_at hl 2 rfl) ?_
  replace z := ob z
  obtain ⟨h4, zh4, z⟩ := z
  refine c_putF S hG hH hS (ci := 8) (k := 1) rfl in_X9 tyX9 tyX9_ok nmX9 (Nat.le_of_ble_eq_true rfl) q957 (fun _ y => y) rfl hnm rfl (ty := .int) rfl rfl rfl zh4 dX9_init_15 (fun H locs hH hS => ?_)
  refine c_aload_n hx hb dX9_init_18 rfl (lv_at hl 0 rfl) ?_
  refine lv_iload_n hx hb dX9_init_19 rfl (lv_at hl 3 rfl) ?_
  replace z := ob z
  obtain ⟨h5, zh5, z⟩ := z
  refine c_putF S hG hH hS (ci := 8) (k := 2) rfl in_X9 tyX9 tyX9_ok nmX9 (Nat.le_of_ble_eq_true rfl) q959 (fun _ y => y) rfl hnm rfl (ty := .int) rfl rfl rfl zh5 dX9_init_20 (fun H locs hH hS => ?_)
  exact c_vret S hr hlk hH hS z dX9_init_23
/-! FourOnOne$State.begins()V -/
def fX5_begins_56 (K : KE) (a0 : Nat) (k26 : HS → Int32 → Option (HS)) : Nat → HS → Int32 → Int32 → Option (HS)
  | 0, _, _, _ => none
  | n + 1, h, a1, a2 =>
    if (8 : Int32) ≤ a2 then
      k26 h (a1 + (1 : Int32))
    else
    (gR K h (some a0) 5 4).bind fun v2 =>
    (cR K h v2 8 a1).bind fun v3 =>
    (sC h v3 0 a2 (0 : Int32)).bind fun h4 =>
    fX5_begins_56 K a0 k26 n h4 a1 (a2 + (1 : Int32))
def fX5_begins_33 (K : KE) (a0 : Nat) (k26 : HS → Int32 → Option (HS)) : Nat → HS → Int32 → Int32 → Option (HS)
  | 0, _, _, _ => none
  | n + 1, h, a1, a2 =>
    if (6 : Int32) ≤ a2 then
      fX5_begins_56 K a0 k26 FU h a1 (0 : Int32)
    else
    (gR K h (some a0) 5 3).bind fun v2 =>
    (cR K h v2 8 a1).bind fun v3 =>
    (sC h v3 0 a2 (0 : Int32)).bind fun h4 =>
    fX5_begins_33 K a0 k26 n h4 a1 (a2 + (1 : Int32))
def fX5_begins_85 (K : KE) (a0 : Nat) : Nat → HS → Int32 → Option (HS)
  | 0, _, _ => none
  | n + 1, h, a1 =>
    if (5 : Int32) ≤ a1 then
      some h
    else
    (gR K h (some a0) 5 5).bind fun v2 =>
    (sC h v2 0 a1 (0 : Int32)).bind fun h3 =>
    fX5_begins_85 K a0 n h3 (a1 + (1 : Int32))
def fX5_begins_26 (K : KE) (a0 : Nat) : Nat → HS → Int32 → Option (HS)
  | 0, _, _ => none
  | n + 1, h, a1 =>
    if (5 : Int32) < a1 then
      fX5_begins_85 K a0 FU h (0 : Int32)
    else
    fX5_begins_33 K a0 (fun h' b1 => fX5_begins_26 K a0 n h' b1) FU h a1 (0 : Int32)
def fX5_begins (K : KE) (h : HS) (a0 : Nat) : Option (HS) :=
  (pV h (some a0) 5 0 (.int (0 : Int32))).bind fun h1 =>
  (gR K h1 (some a0) 5 10).bind fun v2 =>
  (gR K h1 v2 0 0).bind fun v3 =>
  (gI K h1 v3 1 1).bind fun v4 =>
  (pV h1 (some a0) 5 1 (.int v4)).bind fun h5 =>
  (pV h5 (some a0) 5 2 (.int (0 : Int32))).bind fun h6 =>
  fX5_begins_26 K a0 FU h6 (0 : Int32)
set_option maxHeartbeats 4000000 in
theorem wX5_begins_56 {p : Program} {l : Launch} {e : Env} {s : State} {m : MethodId} {args : Array Value} {below : List Frame} {meth : Method} {c : Code} {A : Nat → Prop} {D : va_G} {ac : Nat → ClassId} {K : KE} {h0 : HS} {a0 : Nat} (S : CallFix p m c cX5_begins 3 s args lw_all RX5) (hr : meth.sig.returnType = none) (hlk : meth.locks = false) (hnm : meth.name = "begins") (hG : GK A D ac K s) (hRM : RM K s (rmC 1 0 K h0)) {x : HS} {k26 : HS → Int32 → Option (HS)} (hk26 : ∀ h a1, k26 h a1 = some x → cGo p l e (rmC 1 0 K h0) s m args below meth c A D ac K (MQ below (cQv A D ac K x) args s (K.2.2.1 - h0.2.1) (K.2.2.2 - h0.2.2) A) 3 26 [(0, va_rf (some a0)), (1, .int a1)] [] h) : ∀ (n : Nat) (h : HS) (a1 : Int32) (a2 : Int32), fX5_begins_56 K a0 k26 n h a1 a2 = some x → cGo p l e (rmC 1 0 K h0) s m args below meth c A D ac K (MQ below (cQv A D ac K x) args s (K.2.2.1 - h0.2.1) (K.2.2.2 - h0.2.2) A) 3 56 [(0, va_rf (some a0)), (1, .int a1), (2, .int a2)] [] h := by
  obtain ⟨hx, hb, hml, hown, hts⟩ := id S
  intro n
  induction n with
  | zero => intro h a1 a2 z; cases z
  | succ n ih =>
    intro h a1 a2 z H locs hH hS ls hl
    rw [fX5_begins_56] at z
    refine lv_iload_n hx hb dX5_begins_56 rfl (lv_at hl 2 rfl) ?_
    refine lv_bipush (v := (8 : Int32)) hx hb dX5_begins_57 (by decide) ?_
    refine lv_icmp_ge (tgt := 77) hx hb dX5_begins_59 (by decide) (fun c1 => ?_) (fun c1 => ?_)
    · replace z := it c1 z
      refine lv_iinc (v := (a1 + (1 : Int32))) (lv' := [(1, .int (a1 + (1 : Int32))), (0, va_rf (some a0)), (2, .int a2)]) hx hb dX5_begins_77 hl (k := 1) rfl rfl (by decide) rfl (fun ls hl => ?_)
      refine lv_goto (tgt := 26) hx hb dX5_begins_80 (by decide) ?_
      exact hk26 h (a1 + (1 : Int32)) z _ _ hH hS _ (lv_sub hl [1, 0] rfl)
    replace z := ie c1 z
    refine c_aload_n hx hb dX5_begins_62 rfl (lv_at hl 0 rfl) ?_
    replace z := ob z
    obtain ⟨v2, zv2, z⟩ := z
    obtain ⟨fsv2, yv2, zv2⟩ := gR_e zv2
    refine c_get S hG hH (ci := 5) (k := 4) rfl in_X5 (Nat.le_of_ble_eq_true rfl) q437 (fun _ y => y) yv2 zv2 dX5_begins_63 ?_
    refine lv_iload_n hx hb dX5_begins_66 rfl (lv_at hl 1 rfl) ?_
    replace z := ob z
    obtain ⟨v3, zv3, z⟩ := z
    refine c_aald S hG hH 8 rfl rfl zv3 dX5_begins_67 ?_
    refine lv_iload_n hx hb dX5_begins_68 rfl (lv_at hl 2 rfl) ?_
    refine lv_iconst (v := (0 : Int32)) hx hb dX5_begins_69 (by decide) ?_
    replace z := ob z
    obtain ⟨h4, zh4, z⟩ := z
    refine c_iast S hG hH hS zh4 dX5_begins_70 (fun H locs hH hS => ?_)
    refine lv_iinc (v := (a2 + (1 : Int32))) (lv' := [(2, .int (a2 + (1 : Int32))), (0, va_rf (some a0)), (1, .int a1)]) hx hb dX5_begins_71 hl (k := 2) rfl rfl (by decide) rfl (fun ls hl => ?_)
    refine lv_goto (tgt := 56) hx hb dX5_begins_74 (by decide) ?_
    exact ih h4 a1 (a2 + (1 : Int32)) z _ _ hH hS _ (lv_sub hl [1, 2, 0] rfl)
set_option maxHeartbeats 4000000 in
theorem wX5_begins_33 {p : Program} {l : Launch} {e : Env} {s : State} {m : MethodId} {args : Array Value} {below : List Frame} {meth : Method} {c : Code} {A : Nat → Prop} {D : va_G} {ac : Nat → ClassId} {K : KE} {h0 : HS} {a0 : Nat} (S : CallFix p m c cX5_begins 3 s args lw_all RX5) (hr : meth.sig.returnType = none) (hlk : meth.locks = false) (hnm : meth.name = "begins") (hG : GK A D ac K s) (hRM : RM K s (rmC 1 0 K h0)) {x : HS} {k26 : HS → Int32 → Option (HS)} (hk26 : ∀ h a1, k26 h a1 = some x → cGo p l e (rmC 1 0 K h0) s m args below meth c A D ac K (MQ below (cQv A D ac K x) args s (K.2.2.1 - h0.2.1) (K.2.2.2 - h0.2.2) A) 3 26 [(0, va_rf (some a0)), (1, .int a1)] [] h) : ∀ (n : Nat) (h : HS) (a1 : Int32) (a2 : Int32), fX5_begins_33 K a0 k26 n h a1 a2 = some x → cGo p l e (rmC 1 0 K h0) s m args below meth c A D ac K (MQ below (cQv A D ac K x) args s (K.2.2.1 - h0.2.1) (K.2.2.2 - h0.2.2) A) 3 33 [(0, va_rf (some a0)), (1, .int a1), (2, .int a2)] [] h := by
  obtain ⟨hx, hb, hml, hown, hts⟩ := id S
  intro n
  induction n with
  | zero => intro h a1 a2 z; cases z
  | succ n ih =>
    intro h a1 a2 z H locs hH hS ls hl
    rw [fX5_begins_33] at z
    refine lv_iload_n hx hb dX5_begins_33 rfl (lv_at hl 2 rfl) ?_
    refine lv_bipush (v := (6 : Int32)) hx hb dX5_begins_34 (by decide) ?_
    refine lv_icmp_ge (tgt := 54) hx hb dX5_begins_36 (by decide) (fun c1 => ?_) (fun c1 => ?_)
    · replace z := it c1 z
      refine lv_iconst (v := (0 : Int32)) hx hb dX5_begins_54 (by decide) ?_
      refine lv_istore_n (lv' := [(2, .int (0 : Int32)), (0, va_rf (some a0)), (1, .int a1)]) hx hb dX5_begins_55 rfl hl (by decide) rfl (fun ls hl => ?_)
      exact wX5_begins_56 S hr hlk hnm hG hRM hk26 FU h a1 (0 : Int32) z _ _ hH hS _ (lv_sub hl [1, 2, 0] rfl)
    replace z := ie c1 z
    refine c_aload_n hx hb dX5_begins_39 rfl (lv_at hl 0 rfl) ?_
    replace z := ob z
    obtain ⟨v2, zv2, z⟩ := z
    obtain ⟨fsv2, yv2, zv2⟩ := gR_e zv2
    refine c_get S hG hH (ci := 5) (k := 3) rfl in_X5 (Nat.le_of_ble_eq_true rfl) q435 (fun _ y => y) yv2 zv2 dX5_begins_40 ?_
    refine lv_iload_n hx hb dX5_begins_43 rfl (lv_at hl 1 rfl) ?_
    replace z := ob z
    obtain ⟨v3, zv3, z⟩ := z
    refine c_aald S hG hH 8 rfl rfl zv3 dX5_begins_44 ?_
    refine lv_iload_n hx hb dX5_begins_45 rfl (lv_at hl 2 rfl) ?_
    refine lv_iconst (v := (0 : Int32)) hx hb dX5_begins_46 (by decide) ?_
    replace z := ob z
    obtain ⟨h4, zh4, z⟩ := z
    refine c_iast S hG hH hS zh4 dX5_begins_47 (fun H locs hH hS => ?_)
    refine lv_iinc (v := (a2 + (1 : Int32))) (lv' := [(2, .int (a2 + (1 : Int32))), (0, va_rf (some a0)), (1, .int a1)]) hx hb dX5_begins_48 hl (k := 2) rfl rfl (by decide) rfl (fun ls hl => ?_)
    refine lv_goto (tgt := 33) hx hb dX5_begins_51 (by decide) ?_
    exact ih h4 a1 (a2 + (1 : Int32)) z _ _ hH hS _ (lv_sub hl [1, 2, 0] rfl)
set_option maxHeartbeats 4000000 in
theorem wX5_begins_85 {p : Program} {l : Launch} {e : Env} {s : State} {m : MethodId} {args : Array Value} {below : List Frame} {meth : Method} {c : Code} {A : Nat → Prop} {D : va_G} {ac : Nat → ClassId} {K : KE} {h0 : HS} {a0 : Nat} (S : CallFix p m c cX5_begins 3 s args lw_all RX5) (hr : meth.sig.returnType = none) (hlk : meth.locks = false) (hnm : meth.name = "begins") (hG : GK A D ac K s) (hRM : RM K s (rmC 1 0 K h0)) {x : HS} : ∀ (n : Nat) (h : HS) (a1 : Int32), fX5_begins_85 K a0 n h a1 = some x → cGo p l e (rmC 1 0 K h0) s m args below meth c A D ac K (MQ below (cQv A D ac K x) args s (K.2.2.1 - h0.2.1) (K.2.2.2 - h0.2.2) A) 3 85 [(0, va_rf (some a0)), (1, .int a1)] [] h := by
  obtain ⟨hx, hb, hml, hown, hts⟩ := id S
  intro n
  induction n with
  | zero => intro h a1 z; cases z
  | succ n ih =>
    intro h a1 z H locs hH hS ls hl
    rw [fX5_begins_85] at z
    refine lv_iload_n hx hb dX5_begins_85 rfl (lv_at hl 1 rfl) ?_
    refine lv_iconst (v := (5 : Int32)) hx hb dX5_begins_86 (by decide) ?_
    refine lv_icmp_ge (tgt := 103) hx hb dX5_begins_87 (by decide) (fun c1 => ?_) (fun c1 => ?_)
    · replace z := it c1 z
      exact c_vret S hr hlk hH hS z dX5_begins_103
    replace z := ie c1 z
    refine c_aload_n hx hb dX5_begins_90 rfl (lv_at hl 0 rfl) ?_
    replace z := ob z
    obtain ⟨v2, zv2, z⟩ := z
    obtain ⟨fsv2, yv2, zv2⟩ := gR_e zv2
    refine c_get S hG hH (ci := 5) (k := 5) rfl in_X5 (Nat.le_of_ble_eq_true rfl) q439 (fun _ y => y) yv2 zv2 dX5_begins_91 ?_
    refine lv_iload_n hx hb dX5_begins_94 rfl (lv_at hl 1 rfl) ?_
    refine lv_iconst (v := (0 : Int32)) hx hb dX5_begins_95 (by decide) ?_
    replace z := ob z
    obtain ⟨h3, zh3, z⟩ := z
    refine c_iast S hG hH hS zh3 dX5_begins_96 (fun H locs hH hS => ?_)
    refine lv_iinc (v := (a1 + (1 : Int32))) (lv' := [(1, .int (a1 + (1 : Int32))), (0, va_rf (some a0))]) hx hb dX5_begins_97 hl (k := 1) rfl rfl (by decide) rfl (fun ls hl => ?_)
    refine lv_goto (tgt := 85) hx hb dX5_begins_100 (by decide) ?_
    exact ih h3 (a1 + (1 : Int32)) z _ _ hH hS _ (lv_sub hl [1, 0] rfl)
set_option maxHeartbeats 4000000 in
theorem wX5_begins_26 {p : Program} {l : Launch} {e : Env} {s : State} {m : MethodId} {args : Array Value} {below : List Frame} {meth : Method} {c : Code} {A : Nat → Prop} {D : va_G} {ac : Nat → ClassId} {K : KE} {h0 : HS} {a0 : Nat} (S : CallFix p m c cX5_begins 3 s args lw_all RX5) (hr : meth.sig.returnType = none) (hlk : meth.locks = false) (hnm : meth.name = "begins") (hG : GK A D ac K s) (hRM : RM K s (rmC 1 0 K h0)) {x : HS} : ∀ (n : Nat) (h : HS) (a1 : Int32), fX5_begins_26 K a0 n h a1 = some x → cGo p l e (rmC 1 0 K h0) s m args below meth c A D ac K (MQ below (cQv A D ac K x) args s (K.2.2.1 - h0.2.1) (K.2.2.2 - h0.2.2) A) 3 26 [(0, va_rf (some a0)), (1, .int a1)] [] h := by
  obtain ⟨hx, hb, hml, hown, hts⟩ := id S
  intro n
  induction n with
  | zero => intro h a1 z; cases z
  | succ n ih =>
    intro h a1 z H locs hH hS ls hl
    rw [fX5_begins_26] at z
    refine lv_iload_n hx hb dX5_begins_26 rfl (lv_at hl 1 rfl) ?_
    refine lv_iconst (v := (5 : Int32)) hx hb dX5_begins_27 (by decide) ?_
    refine lv_icmp_gt (tgt := 83) hx hb dX5_begins_28 (by decide) (fun c1 => ?_) (fun c1 => ?_)
    · replace z := it c1 z
      refine lv_iconst (v := (0 : Int32)) hx hb dX5_begins_83 (by decide) ?_
      refine lv_istore_n (lv' := [(1, .int (0 : Int32)), (0, va_rf (some a0))]) hx hb dX5_begins_84 rfl hl (by decide) rfl (fun ls hl => ?_)
      exact wX5_begins_85 S hr hlk hnm hG hRM FU h (0 : Int32) z _ _ hH hS _ (lv_sub hl [1, 0] rfl)
    replace z := ie c1 z
    refine lv_iconst (v := (0 : Int32)) hx hb dX5_begins_31 (by decide) ?_
    refine lv_istore_n (lv' := [(2, .int (0 : Int32)), (0, va_rf (some a0)), (1, .int a1)]) hx hb dX5_begins_32 rfl hl (by decide) rfl (fun ls hl => ?_)
    exact wX5_begins_33 S hr hlk hnm hG hRM ih FU h a1 (0 : Int32) z _ _ hH hS _ (lv_sub hl [1, 2, 0] rfl)
set_option maxHeartbeats 4000000 in
theorem metX5_begins {l : Launch} {A : Nat → Prop} {D : va_G} {ac : Nat → ClassId} {K : KE} {h : HS} {a0 : Nat} {x : HS} (z : fX5_begins K h a0 = some x) : Met l yX5_begins (ws_ yX5_begins cX5_begins 3 (none)) (rmC 1 0 K h) (cP A D ac K h [va_rf (some a0)]) (cQv A D ac K x) (K.2.2.1 - h.2.1) (K.2.2.2 - h.2.2) A := by
  refine c_entry (plainFor_of_name (by decide)) (Nat.le_of_ble_eq_true rfl) ?_
  intro p e s m below meth c S hr hlk hnm hG hRM hH hS ls hl
  replace hl : lv_has ls 3 [(0, va_rf (some a0))] := hl
  replace hnm : meth.name = "begins" := hnm
  replace S : CallFix p m c cX5_begins 3 s _ lw_all RX5 := S
  obtain ⟨hx, hb, hml, hown, hts⟩ := id S
  unfold fX5_begins at z
  refine c_aload_n hx hb dX5_begins_0 rfl (lv_at hl 0 rfl) ?_
  refine lv_iconst (v := (0 : Int32)) hx hb dX5_begins_1 (by decide) ?_
  replace z := ob z
  obtain ⟨h1, zh1, z⟩ := z
  refine c_put S hG hH hS (ci := 5) (k := 0) rfl in_X5 tyX5 tyX5_ok nmX5 (Nat.le_of_ble_eq_true rfl) q429 (fun _ y => y) rfl (ty := .int) rfl rfl rfl zh1 dX5_begins_2 (fun H locs hH hS => ?_)
  refine c_aload_n hx hb dX5_begins_5 rfl (lv_at hl 0 rfl) ?_
  refine c_aload_n hx hb dX5_begins_6 rfl (lv_at hl 0 rfl) ?_
  replace z := ob z
  obtain ⟨v2, zv2, z⟩ := z
  obtain ⟨fsv2, yv2, zv2⟩ := gR_e zv2
  refine c_get S hG hH (ci := 5) (k := 10) rfl in_X5 (Nat.le_of_ble_eq_true rfl) q449 (fun _ y => y) yv2 zv2 dX5_begins_7 ?_
  replace z := ob z
  obtain ⟨v3, zv3, z⟩ := z
  obtain ⟨fsv3, yv3, zv3⟩ := gR_e zv3
  refine c_getN S hG hH (ci := 0) (k := 0) rfl in_X0 (Nat.le_of_ble_eq_true rfl) q477 (fun _ y => y) yv3 zv3 dX5_begins_10 ?_
  replace z := ob z
  obtain ⟨v4, zv4, z⟩ := z
  obtain ⟨fsv4, yv4, zv4⟩ := gI_e zv4
  refine c_getN S hG hH (ci := 1) (k := 1) rfl in_X1 (Nat.le_of_ble_eq_true rfl) q251 (fun _ y => y) yv4 zv4 dX5_begins_13 ?_
  replace z := ob z
  obtain ⟨h5, zh5, z⟩ := z
  refine c_put S hG hH hS (ci := 5) (k := 1) rfl in_X5 tyX5 tyX5_ok nmX5 (Nat.le_of_ble_eq_true rfl) q431 (fun _ y => y) rfl (ty := .int) rfl rfl rfl zh5 dX5_begins_16 (fun H locs hH hS => ?_)
  refine c_aload_n hx hb dX5_begins_19 rfl (lv_at hl 0 rfl) ?_
  refine lv_iconst (v := (0 : Int32)) hx hb dX5_begins_20 (by decide) ?_
  replace z := ob z
  obtain ⟨h6, zh6, z⟩ := z
  refine c_put S hG hH hS (ci := 5) (k := 2) rfl in_X5 tyX5 tyX5_ok nmX5 (Nat.le_of_ble_eq_true rfl) q433 (fun _ y => y) rfl (ty := .int) rfl rfl rfl zh6 dX5_begins_21 (fun H locs hH hS => ?_)
  refine lv_iconst (v := (0 : Int32)) hx hb dX5_begins_24 (by decide) ?_
  refine lv_istore_n (lv' := [(1, .int (0 : Int32)), (0, va_rf (some a0))]) hx hb dX5_begins_25 rfl hl (by decide) rfl (fun ls hl => ?_)
  exact wX5_begins_26 S hr hlk hnm hG hRM FU h6 (0 : Int32) z _ _ hH hS _ (lv_sub hl [1, 0] rfl)
/-! FourOnOne.fault(I)I -/
def fX0_fault (K : KE) (h : HS) (a0 : Nat) (a1 : Int32) : Option (Int32) :=
  if a1 = 0 then
    (gI K h (some a0) 0 3).bind fun v4 =>
    some v4
  else
  if a1 = (1 : Int32) then
    (gI K h (some a0) 0 4).bind fun v3 =>
    some v3
  else
  some (-1 : Int32)
set_option maxHeartbeats 4000000 in
theorem metX0_fault {l : Launch} {A : Nat → Prop} {D : va_G} {ac : Nat → ClassId} {K : KE} {h : HS} {a0 : Nat} {a1 : Int32} {x : Int32} (z : fX0_fault K h a0 a1 = some x) : Met l yX0_fault (ws_ yX0_fault cX0_fault 2 (some .int)) (rmC 1 0 K h) (cP A D ac K h [va_rf (some a0), .int a1]) (cQi A D ac K (h, x)) (K.2.2.1 - h.2.1) (K.2.2.2 - h.2.2) A := by
  refine c_entry (plainFor_of_name (by decide)) (Nat.le_of_ble_eq_true rfl) ?_
  intro p e s m below meth c S hr hlk hnm hG hRM hH hS ls hl
  replace hl : lv_has ls 2 [(0, va_rf (some a0)), (1, .int a1)] := hl
  replace hnm : meth.name = "fault" := hnm
  replace S : CallFix p m c cX0_fault 2 s _ lw_all RX0 := S
  obtain ⟨hx, hb, hml, hown, hts⟩ := id S
  unfold fX0_fault at z
  refine lv_iload_n hx hb dX0_fault_0 rfl (lv_at hl 1 rfl) ?_
  refine lv_if_ne (tgt := 11) hx hb dX0_fault_1 (by decide) (fun c1 => ?_) (fun c1 => ?_)
  rotate_left 1
  · replace z := it c1 z
    refine c_aload_n hx hb dX0_fault_4 rfl (lv_at hl 0 rfl) ?_
    replace z := ob z
    obtain ⟨v4, zv4, z⟩ := z
    obtain ⟨fsv4, yv4, zv4⟩ := gI_e zv4
    refine c_get S hG hH (ci := 0) (k := 3) rfl in_X0 (Nat.le_of_ble_eq_true rfl) q482 (fun _ y => y) yv4 zv4 dX0_fault_5 ?_
    refine lv_goto (tgt := 24) hx hb dX0_fault_8 (by decide) ?_
    exact c_iret' S hr hlk rfl hH hS z dX0_fault_24
  replace z := ie c1 z
  refine lv_iload_n hx hb dX0_fault_11 rfl (lv_at hl 1 rfl) ?_
  refine lv_iconst (v := (1 : Int32)) hx hb dX0_fault_12 (by decide) ?_
  refine lv_icmp_ne (tgt := 23) hx hb dX0_fault_13 (by decide) (fun c2 => ?_) (fun c2 => ?_)
  · replace z := ie c2 z
    refine lv_iconst (v := (-1 : Int32)) hx hb dX0_fault_23 (by decide) ?_
    exact c_iret' S hr hlk rfl hH hS z dX0_fault_24
  replace z := it c2 z
  refine c_aload_n hx hb dX0_fault_16 rfl (lv_at hl 0 rfl) ?_
  replace z := ob z
  obtain ⟨v3, zv3, z⟩ := z
  obtain ⟨fsv3, yv3, zv3⟩ := gI_e zv3
  refine c_get S hG hH (ci := 0) (k := 4) rfl in_X0 (Nat.le_of_ble_eq_true rfl) q483 (fun _ y => y) yv3 zv3 dX0_fault_17 ?_
  refine lv_goto (tgt := 24) hx hb dX0_fault_20 (by decide) ?_
  exact c_iret' S hr hlk rfl hH hS z dX0_fault_24
/-! FourOnOne.people()I -/
def fX0_people (K : KE) (h : HS) (a0 : Nat) : Option (Int32) :=
  (gR K h (some a0) 0 0).bind fun v1 =>
  (gR K h v1 1 8).bind fun v2 =>
  (rcv K h v2 19).bind fun b3 =>
  (fJ2_size K h b3).bind fun x4 =>
  some x4
set_option maxHeartbeats 4000000 in
theorem metX0_people {l : Launch} {A : Nat → Prop} {D : va_G} {ac : Nat → ClassId} {K : KE} {h : HS} {a0 : Nat} {x : Int32} (z : fX0_people K h a0 = some x) : Met l yX0_people (ws_ yX0_people cX0_people 1 (some .int)) (rmC 2 20 K h) (cP A D ac K h [va_rf (some a0)]) (cQi A D ac K (h, x)) (K.2.2.1 - h.2.1) (K.2.2.2 - h.2.2) A := by
  refine c_entry (plainFor_of_name (by decide)) (Nat.le_of_ble_eq_true rfl) ?_
  intro p e s m below meth c S hr hlk hnm hG hRM hH hS ls hl
  replace hl : lv_has ls 1 [(0, va_rf (some a0))] := hl
  replace hnm : meth.name = "people" := hnm
  replace S : CallFix p m c cX0_people 1 s _ lw_all RX0 := S
  obtain ⟨hx, hb, hml, hown, hts⟩ := id S
  unfold fX0_people at z
  refine c_aload_n hx hb dX0_people_0 rfl (lv_at hl 0 rfl) ?_
  replace z := ob z
  obtain ⟨v1, zv1, z⟩ := z
  obtain ⟨fsv1, yv1, zv1⟩ := gR_e zv1
  refine c_get S hG hH (ci := 0) (k := 0) rfl in_X0 (Nat.le_of_ble_eq_true rfl) q478 (fun _ y => y) yv1 zv1 dX0_people_1 ?_
  replace z := ob z
  obtain ⟨v2, zv2, z⟩ := z
  obtain ⟨fsv2, yv2, zv2⟩ := gR_e zv2
  refine c_getN S hG hH (ci := 1) (k := 8) rfl in_X1 (Nat.le_of_ble_eq_true rfl) q270 (fun _ y => y) yv2 zv2 dX0_people_4 ?_
  replace z := ob z
  obtain ⟨b3, zb3, z⟩ := z
  obtain ⟨yb3, zb3⟩ := rcv_e zb3
  replace z := ob z
  obtain ⟨x4, zx4, z⟩ := z
  refine c_callFi hH hS hRM (fun _ _ f1 f2 => va_runF (b := b3) (As := []) (rest := []) (hG.1.1 19 _ rfl).2 S (metJ2_size zx4) (va_cwF 0 hts (lw_app (lw_l4 q1273 q761 q763 q171) (lw_meth q765)) rfl rfl rfl hG.2.2.2.2.1.1 (by decide +kernel) ⟨(Nat.le_of_ble_eq_true rfl), (Nat.le_of_ble_eq_true rfl)⟩) (c_preV hG hH hS (ci := 19) rfl zb3) rfl rfl hl.1 (by rw [yb3]; rfl) (lv_room (Nat.le_of_ble_eq_true rfl)) dX0_people_7 ⟨f1, f2⟩) (fun H locs hH hS => ?_)
  exact c_iret' S hr hlk rfl hH hS z dX0_people_12
/-! FourOnOne.allSaw()I -/
def fX0_allSaw_4 (K : KE) (h : HS) (a0 : Nat) : Nat → Int32 → Int32 → Option (Int32)
  | 0, _, _ => none
  | n + 1, a1, a2 =>
    (rcv K h (some a0) 0).bind fun b1 =>
    (fX0_people K h b1).bind fun x2 =>
    if x2 ≤ a2 then
      some a1
    else
    (gR K h (some a0) 0 9).bind fun v4 =>
    (gR K h v4 5 5).bind fun v5 =>
    (cI K h v5 0 a2).bind fun v6 =>
    fX0_allSaw_4 K h a0 n (a1 + v6) (a2 + (1 : Int32))
def fX0_allSaw (K : KE) (h : HS) (a0 : Nat) : Option (Int32) :=
  fX0_allSaw_4 K h a0 FU (0 : Int32) (0 : Int32)
set_option maxHeartbeats 4000000 in
theorem wX0_allSaw_4 {p : Program} {l : Launch} {e : Env} {s : State} {m : MethodId} {args : Array Value} {below : List Frame} {meth : Method} {c : Code} {A : Nat → Prop} {D : va_G} {ac : Nat → ClassId} {K : KE} {h : HS} {a0 : Nat} (S : CallFix p m c cX0_allSaw 3 s args lw_all RX0) (hr : meth.sig.returnType = some .int) (hlk : meth.locks = false) (hnm : meth.name = "allSaw") (hG : GK A D ac K s) (hRM : RM K s (rmC 3 40 K h)) {x : Int32} : ∀ (n : Nat) (a1 : Int32) (a2 : Int32), fX0_allSaw_4 K h a0 n a1 a2 = some x → cGo p l e (rmC 3 40 K h) s m args below meth c A D ac K (MQ below (cQi A D ac K (h, x)) args s (K.2.2.1 - h.2.1) (K.2.2.2 - h.2.2) A) 3 4 [(0, va_rf (some a0)), (1, .int a1), (2, .int a2)] [] h := by
  obtain ⟨hx, hb, hml, hown, hts⟩ := id S
  intro n
  induction n with
  | zero => intro a1 a2 z; cases z
  | succ n ih =>
    intro a1 a2 z H locs hH hS ls hl
    rw [fX0_allSaw_4] at z
    refine lv_iload_n hx hb dX0_allSaw_4 rfl (lv_at hl 2 rfl) ?_
    refine c_aload_n hx hb dX0_allSaw_5 rfl (lv_at hl 0 rfl) ?_
    replace z := ob z
    obtain ⟨b1, zb1, z⟩ := z
    obtain ⟨yb1, zb1⟩ := rcv_e zb1
    replace z := ob z
    obtain ⟨x2, zx2, z⟩ := z
    refine c_calli hH hS hRM (fun _ _ f1 f2 => va_runV (b := b1) (As := []) (rest := [.int a2]) S (metX0_people zx2) (cwV 0 hts (lw_V q1278 q1280 qs37 q167 q1281) rfl rfl rfl (by decide +kernel) ⟨(Nat.le_of_ble_eq_true rfl), (Nat.le_of_ble_eq_true rfl)⟩) (c_preV hG hH hS (ci := 0) rfl zb1) rfl rfl hl.1 (by rw [yb1]; rfl) (lv_room (Nat.le_of_ble_eq_true rfl)) dX0_allSaw_6 ⟨f1, f2⟩) (fun H locs hH hS => ?_)
    refine lv_icmp_ge (tgt := 30) hx hb dX0_allSaw_9 (by decide) (fun c3 => ?_) (fun c3 => ?_)
    · replace z := it c3 z
      refine lv_iload_n hx hb dX0_allSaw_30 rfl (lv_at hl 1 rfl) ?_
      exact c_iret' S hr hlk rfl hH hS z dX0_allSaw_31
    replace z := ie c3 z
    refine lv_iload_n hx hb dX0_allSaw_12 rfl (lv_at hl 1 rfl) ?_
    refine c_aload_n hx hb dX0_allSaw_13 rfl (lv_at hl 0 rfl) ?_
    replace z := ob z
    obtain ⟨v4, zv4, z⟩ := z
    obtain ⟨fsv4, yv4, zv4⟩ := gR_e zv4
    refine c_get S hG hH (ci := 0) (k := 9) rfl in_X0 (Nat.le_of_ble_eq_true rfl) q489 (fun _ y => y) yv4 zv4 dX0_allSaw_14 ?_
    replace z := ob z
    obtain ⟨v5, zv5, z⟩ := z
    obtain ⟨fsv5, yv5, zv5⟩ := gR_e zv5
    refine c_getN S hG hH (ci := 5) (k := 5) rfl in_X5 (Nat.le_of_ble_eq_true rfl) q440 (fun _ y => y) yv5 zv5 dX0_allSaw_17 ?_
    refine lv_iload_n hx hb dX0_allSaw_20 rfl (lv_at hl 2 rfl) ?_
    replace z := ob z
    obtain ⟨v6, zv6, z⟩ := z
    refine c_iald S hG hH zv6 dX0_allSaw_21 ?_
    refine lv_iadd hx hb dX0_allSaw_22 ?_
    refine lv_istore_n (lv' := [(1, .int (a1 + v6)), (0, va_rf (some a0)), (2, .int a2)]) hx hb dX0_allSaw_23 rfl hl (by decide) rfl (fun ls hl => ?_)
    refine lv_iinc (v := (a2 + (1 : Int32))) (lv' := [(2, .int (a2 + (1 : Int32))), (1, .int (a1 + v6)), (0, va_rf (some a0))]) hx hb dX0_allSaw_24 hl (k := 2) rfl rfl (by decide) rfl (fun ls hl => ?_)
    refine lv_goto (tgt := 4) hx hb dX0_allSaw_27 (by decide) ?_
    exact ih (a1 + v6) (a2 + (1 : Int32)) z _ _ hH hS _ (lv_sub hl [2, 1, 0] rfl)
set_option maxHeartbeats 4000000 in
theorem metX0_allSaw {l : Launch} {A : Nat → Prop} {D : va_G} {ac : Nat → ClassId} {K : KE} {h : HS} {a0 : Nat} {x : Int32} (z : fX0_allSaw K h a0 = some x) : Met l yX0_allSaw (ws_ yX0_allSaw cX0_allSaw 3 (some .int)) (rmC 3 40 K h) (cP A D ac K h [va_rf (some a0)]) (cQi A D ac K (h, x)) (K.2.2.1 - h.2.1) (K.2.2.2 - h.2.2) A := by
  refine c_entry (plainFor_of_name (by decide)) (Nat.le_of_ble_eq_true rfl) ?_
  intro p e s m below meth c S hr hlk hnm hG hRM hH hS ls hl
  replace hl : lv_has ls 3 [(0, va_rf (some a0))] := hl
  replace hnm : meth.name = "allSaw" := hnm
  replace S : CallFix p m c cX0_allSaw 3 s _ lw_all RX0 := S
  obtain ⟨hx, hb, hml, hown, hts⟩ := id S
  unfold fX0_allSaw at z
  refine lv_iconst (v := (0 : Int32)) hx hb dX0_allSaw_0 (by decide) ?_
  refine lv_istore_n (lv' := [(1, .int (0 : Int32)), (0, va_rf (some a0))]) hx hb dX0_allSaw_1 rfl hl (by decide) rfl (fun ls hl => ?_)
  refine lv_iconst (v := (0 : Int32)) hx hb dX0_allSaw_2 (by decide) ?_
  refine lv_istore_n (lv' := [(2, .int (0 : Int32)), (1, .int (0 : Int32)), (0, va_rf (some a0))]) hx hb dX0_allSaw_3 rfl hl (by decide) rfl (fun ls hl => ?_)
  exact wX0_allSaw_4 S hr hlk hnm hG hRM FU (0 : Int32) (0 : Int32) z _ _ hH hS _ (lv_sub hl [2, 1, 0] rfl)
/-! FourOnOne.films()I -/
def fX0_films (K : KE) (h : HS) (a0 : Nat) : Option (Int32) :=
  (gR K h (some a0) 0 0).bind fun v1 =>
  (gR K h v1 1 7).bind fun v2 =>
  (rcv K h v2 19).bind fun b3 =>
  (fJ2_size K h b3).bind fun x4 =>
  some x4
set_option maxHeartbeats 4000000 in
theorem metX0_films {l : Launch} {A : Nat → Prop} {D : va_G} {ac : Nat → ClassId} {K : KE} {h : HS} {a0 : Nat} {x : Int32} (z : fX0_films K h a0 = some x) : Met l yX0_films (ws_ yX0_films cX0_films 1 (some .int)) (rmC 2 20 K h) (cP A D ac K h [va_rf (some a0)]) (cQi A D ac K (h, x)) (K.2.2.1 - h.2.1) (K.2.2.2 - h.2.2) A := by
  refine c_entry (plainFor_of_name (by decide)) (Nat.le_of_ble_eq_true rfl) ?_
  intro p e s m below meth c S hr hlk hnm hG hRM hH hS ls hl
  replace hl : lv_has ls 1 [(0, va_rf (some a0))] := hl
  replace hnm : meth.name = "films" := hnm
  replace S : CallFix p m c cX0_films 1 s _ lw_all RX0 := S
  obtain ⟨hx, hb, hml, hown, hts⟩ := id S
  unfold fX0_films at z
  refine c_aload_n hx hb dX0_films_0 rfl (lv_at hl 0 rfl) ?_
  replace z := ob z
  obtain ⟨v1, zv1, z⟩ := z
  obtain ⟨fsv1, yv1, zv1⟩ := gR_e zv1
  refine c_get S hG hH (ci := 0) (k := 0) rfl in_X0 (Nat.le_of_ble_eq_true rfl) q478 (fun _ y => y) yv1 zv1 dX0_films_1 ?_
  replace z := ob z
  obtain ⟨v2, zv2, z⟩ := z
  obtain ⟨fsv2, yv2, zv2⟩ := gR_e zv2
  refine c_getN S hG hH (ci := 1) (k := 7) rfl in_X1 (Nat.le_of_ble_eq_true rfl) q267 (fun _ y => y) yv2 zv2 dX0_films_4 ?_
  replace z := ob z
  obtain ⟨b3, zb3, z⟩ := z
  obtain ⟨yb3, zb3⟩ := rcv_e zb3
  replace z := ob z
  obtain ⟨x4, zx4, z⟩ := z
  refine c_callFi hH hS hRM (fun _ _ f1 f2 => va_runF (b := b3) (As := []) (rest := []) (hG.1.1 19 _ rfl).2 S (metJ2_size zx4) (va_cwF 0 hts (lw_app (lw_l4 q1273 q761 q763 q171) (lw_meth q765)) rfl rfl rfl hG.2.2.2.2.1.1 (by decide +kernel) ⟨(Nat.le_of_ble_eq_true rfl), (Nat.le_of_ble_eq_true rfl)⟩) (c_preV hG hH hS (ci := 19) rfl zb3) rfl rfl hl.1 (by rw [yb3]; rfl) (lv_room (Nat.le_of_ble_eq_true rfl)) dX0_films_7 ⟨f1, f2⟩) (fun H locs hH hS => ?_)
  exact c_iret' S hr hlk rfl hH hS z dX0_films_12

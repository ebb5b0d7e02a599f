set_option maxRecDepth 100000
/-! FourOnOne$Reader.once(LFourOnOne$Value;II)LFourOnOne$Value; -/
def fX2_once_10 (K : KE) (a0 : Nat) (h : HS) (a2 : Int32) (a3 : Int32) (t1 : Int32) : Option (HS × (Nat ⊕ Option Nat)) :=
  (rcv K h (some a0) 2).bind fun b1 =>
  (fX2_most K h b1 t1 a2).bind fun x2 =>
  tb x2 (fun q3 => some (x2.1, .inl q3)) fun v4 =>
  (pV x2.1 (some a0) 2 5 (.int a3)).bind fun h6 =>
  (rcv K h6 (some a0) 2).bind fun b7 =>
  (fX2_sum K h6 (rsD K 64) b7).bind fun x8 =>
  tb x8 (fun q9 => some (x8.1, .inl q9)) fun v10 =>
  some (x8.1, .inr v10)
def fX2_once (K : KE) (h : HS) (a0 : Nat) (a1 : Option Nat) (a2 : Int32) (a3 : Int32) : Option (HS × (Nat ⊕ Option Nat)) :=
  if a1 = none then
    fX2_once_10 K a0 h a2 a3 (0 : Int32)
  else
  fX2_once_10 K a0 h a2 a3 (1 : Int32)
set_option maxHeartbeats 4000000 in
theorem wX2_once_10 {p : Program} {l : Launch} {e : Env} {s : State} {m : MethodId} {args : Array Value} {below : List Frame} {meth : Method} {c : Code} {A : Nat → Prop} {D : va_G} {ac : Nat → ClassId} {K : KE} {h0 : HS} {a0 : Nat} (S : CallFix p m c cX2_once 4 s args lw_all RX2) (hr : meth.sig.returnType = some (.object "FourOnOne$Value")) (hlk : meth.locks = false) (hnm : meth.name = "once") (hEx : ∀ x ∈ c.exceptionTable.toList, False) (hG : GK A D ac K s) (hRM : RM K s (rmC 715 33709 K h0)) {x : HS × (Nat ⊕ Option Nat)} : ∀ (h : HS) (a2 : Int32) (a3 : Int32) (t1 : Int32), fX2_once_10 K a0 h a2 a3 t1 = some x → cGo p l e (rmC 715 33709 K h0) s m args below meth c A D ac K (vy_MQ below (tQq A D ac K x) (tX A D ac K x) args s (K.2.2.1 - h0.2.1) (K.2.2.2 - h0.2.2) A) 4 10 [(0, va_rf (some a0)), (2, .int a2), (3, .int a3)] [.int t1, va_rf (some a0)] h := by
  obtain ⟨hx, hb, hml, hown, hts⟩ := id S
  intro h a2 a3 t1 z H locs hH hS ls hl
  unfold fX2_once_10 at z
  refine lv_iload_n hx hb dX2_once_10 rfl (lv_at hl 1 rfl) ?_
  replace z := ob z
  obtain ⟨b1, zb1, z⟩ := z
  obtain ⟨yb1, zb1⟩ := rcv_e zb1
  replace z := ob z
  obtain ⟨x2, zx2, z⟩ := z
  refine t_callv hH hS hRM (fun _ _ f1 f2 => vy_runV (b := b1) (As := [.int t1, .int a2]) (rest := []) S (metX2_most zx2) (cwV 2 hts (lw_V q587 q589 qs6 q172 q590) rfl rfl rfl (by decide +kernel) ⟨(Nat.le_of_ble_eq_true rfl), (Nat.le_of_ble_eq_true rfl)⟩) (c_preV hG hH hS (ci := 2) rfl zb1) rfl rfl hl.1 (by rw [yb1]; rfl) (lv_room (Nat.le_of_ble_eq_true rfl)) dX2_once_11 ⟨f1, f2⟩) (fun q3 H locs ce e5 hH hS g1 g2 g3 => ?_) (fun v4 H locs e5 hH hS => ?_)
  · replace z := tb_l e5 z
    exact t_prop hEx hlk hH hS g1 g2 g3 z
  replace z := tb_r e5 z
  refine c_aload_n hx hb dX2_once_14 rfl (lv_at hl 0 rfl) ?_
  refine lv_iload_n hx hb dX2_once_15 rfl (lv_at hl 2 rfl) ?_
  replace z := ob z
  obtain ⟨h6, zh6, z⟩ := z
  refine c_put S hG hH hS (ci := 2) (k := 5) rfl in_X2 tyX2 tyX2_ok nmX2 (Nat.le_of_ble_eq_true rfl) q387 (fun _ y => y) rfl (ty := .int) rfl rfl rfl zh6 dX2_once_16 (fun H locs hH hS => ?_)
  refine c_aload_n hx hb dX2_once_19 rfl (lv_at hl 0 rfl) ?_
  replace z := ob z
  obtain ⟨b7, zb7, z⟩ := z
  obtain ⟨yb7, zb7⟩ := rcv_e zb7
  replace z := ob z
  obtain ⟨x8, zx8, z⟩ := z
  refine t_callq hH hS hRM (fun _ _ f1 f2 => vy_runV (b := b7) (As := []) (rest := []) S (metX2_sum (frR_ge 64) (rsD_ok 64) zx8) (cwV 0 hts (lw_V q992 q994 qs23 q172 q995) rfl rfl rfl (by decide +kernel) ⟨(Nat.le_of_ble_eq_true rfl), (Nat.le_of_ble_eq_true rfl)⟩) (c_preV hG hH hS (ci := 2) rfl zb7) rfl rfl hl.1 (by rw [yb7]; rfl) (lv_room (Nat.le_of_ble_eq_true rfl)) dX2_once_20 ⟨f1, f2⟩) (fun q9 H locs ce e11 hH hS g1 g2 g3 => ?_) (fun v10 H locs e11 hH hS => ?_)
  · replace z := tb_l e11 z
    exact t_prop hEx hlk hH hS g1 g2 g3 z
  replace z := tb_r e11 z
  exact t_aret S hr (Or.inl ⟨_, rfl⟩) hlk hH hS z dX2_once_23
set_option maxHeartbeats 4000000 in
theorem metX2_once {l : Launch} {A : Nat → Prop} {D : va_G} {ac : Nat → ClassId} {K : KE} {h : HS} {a0 : Nat} {a1 : Option Nat} {a2 : Int32} {a3 : Int32} {x : HS × (Nat ⊕ Option Nat)} (z : fX2_once K h a0 a1 a2 a3 = some x) : vy_Met l yX2_once (ws_ yX2_once cX2_once 4 (some (.object "FourOnOne$Value"))) (rmC 715 33709 K h) (cP A D ac K h [va_rf (some a0), va_rf a1, .int a2, .int a3]) (tQq A D ac K x) (tX A D ac K x) (K.2.2.1 - h.2.1) (K.2.2.2 - h.2.2) A := by
  refine t_entry (by decide) (by simp [lg_sl, ct_r, ct_i, ct_l]) ?_
  intro p e s m below meth c S hr hlk hnm hEx hG hRM hH hS ls hl
  replace hl : lv_has ls 4 [(0, va_rf (some a0)), (1, va_rf a1), (2, .int a2), (3, .int a3)] := (by simpa [lv_args, ct_r, ct_i, ct_l] using hl)
  replace hnm : meth.name = "once" := hnm
  replace S : CallFix p m c cX2_once 4 s _ lw_all RX2 := S
  obtain ⟨hx, hb, hml, hown, hts⟩ := id S
  unfold fX2_once at z
  refine c_aload_n hx hb dX2_once_0 rfl (lv_at hl 0 rfl) ?_
  refine c_aload_n hx hb dX2_once_1 rfl (lv_at hl 1 rfl) ?_
  refine c_ifnull (tgt := 9) hx hb dX2_once_2 (by decide) (fun c1 => ?_) (fun c1 => ?_)
  · replace z := it c1 z
    refine lv_iconst (v := (0 : Int32)) hx hb dX2_once_9 (by decide) ?_
    exact wX2_once_10 S hr hlk hnm hEx hG hRM h a2 a3 (0 : Int32) z _ _ hH hS _ (lv_sub hl [0, 2, 3] rfl)
  replace z := ie c1 z
  refine lv_iconst (v := (1 : Int32)) hx hb dX2_once_5 (by decide) ?_
  refine lv_goto (tgt := 10) hx hb dX2_once_6 (by decide) ?_
  exact wX2_once_10 S hr hlk hnm hEx hG hRM h a2 a3 (1 : Int32) z _ _ hH hS _ (lv_sub hl [0, 2, 3] rfl)
/-! FourOnOne$Reader.more(Ljava/lang/String;I)V -/
def fX2_more_287 (K : KE) (a0 : Nat) (h : HS) (a2 : Int32) (t1 : Int32) : Option (HS × (Nat ⊕ Unit)) :=
  (rcv K h (some a0) 2).bind fun b1 =>
  (fX2_most K h b1 t1 a2).bind fun x2 =>
  tb x2 (fun q3 => some (x2.1, .inl q3)) fun v4 =>
  (pV x2.1 (some a0) 2 5 (.int (57 : Int32))).bind fun h6 =>
  (gR K h6 (some a0) 2 6).bind fun v7 =>
  (rcv K h6 (some a0) 2).bind fun b8 =>
  (fX2_test K h6 (rsD K 64) b8).bind fun x9 =>
  tb x9 (fun q10 => some (x9.1, .inl q10)) fun v11 =>
  (pV x9.1 v7 1 11 (va_rf v11)).bind fun h13 =>
  some (h13, .inr ())
def fX2_more_179 (K : KE) (a0 : Nat) (h : HS) (a2 : Int32) (a4 : Int32) : Option (HS × (Nat ⊕ Unit)) :=
  if a4 = 0 then
    (gR K h (some a0) 2 6).bind fun v1 =>
    (gR K h (some a0) 2 6).bind fun v2 =>
    (gR K h v2 1 9).bind fun v3 =>
    (rcv K h (some a0) 2).bind fun b4 =>
    (fX2_once K h b4 v3 a2 (7 : Int32)).bind fun x5 =>
    tb x5 (fun q6 => some (x5.1, .inl q6)) fun v7 =>
    (pV x5.1 v1 1 9 (va_rf v7)).bind fun h9 =>
    some (h9, .inr ())
  else
  if a4 = 1 then
    (gR K h (some a0) 2 6).bind fun v11 =>
    (gR K h (some a0) 2 6).bind fun v12 =>
    (gR K h v12 1 10).bind fun v13 =>
    (rcv K h (some a0) 2).bind fun b14 =>
    (fX2_once K h b14 v13 a2 (3 : Int32)).bind fun x15 =>
    tb x15 (fun q16 => some (x15.1, .inl q16)) fun v17 =>
    (pV x15.1 v11 1 10 (va_rf v17)).bind fun h19 =>
    some (h19, .inr ())
  else
  if a4 = 2 then
    (gR K h (some a0) 2 6).bind fun v21 =>
    (gR K h v21 1 11).bind fun v22 =>
    if v22 = none then
      fX2_more_287 K a0 h a2 (0 : Int32)
    else
    fX2_more_287 K a0 h a2 (1 : Int32)
  else
  if a4 = 3 then
    (gR K h (some a0) 2 6).bind fun v25 =>
    (rcv K h (some a0) 2).bind fun b26 =>
    (fX2_number_2 K h b26 (1 : Int32) (5 : Int32)).bind fun x27 =>
    tb x27 (fun q28 => some (x27.1, .inl q28)) fun v29 =>
    (pV x27.1 v25 1 2 (.int v29)).bind fun h31 =>
    some (h31, .inr ())
  else
  if a4 = 4 then
    (gR K h (some a0) 2 6).bind fun v33 =>
    (rcv K h (some a0) 2).bind fun b34 =>
    (fX2_number_2 K h b34 (0 : Int32) (999 : Int32)).bind fun x35 =>
    tb x35 (fun q36 => some (x35.1, .inl q36)) fun v37 =>
    (pV x35.1 v33 1 3 (.int v37)).bind fun h39 =>
    some (h39, .inr ())
  else
  if a4 = 5 then
    (gR K h (some a0) 2 6).bind fun v41 =>
    (rcv K h (some a0) 2).bind fun b42 =>
    (fX2_number_2 K h b42 (0 : Int32) (99 : Int32)).bind fun x43 =>
    tb x43 (fun q44 => some (x43.1, .inl q44)) fun v45 =>
    (pV x43.1 v41 1 4 (.int v45)).bind fun h47 =>
    some (h47, .inr ())
  else
  if a4 = 6 then
    (gR K h (some a0) 2 6).bind fun v49 =>
    (rcv K h (some a0) 2).bind fun b50 =>
    (fX2_number_2 K h b50 (0 : Int32) (100 : Int32)).bind fun x51 =>
    tb x51 (fun q52 => some (x51.1, .inl q52)) fun v53 =>
    (pV x51.1 v49 1 5 (.int v53)).bind fun h55 =>
    some (h55, .inr ())
  else
  (rcv K h (some a0) 2).bind fun b57 =>
  (fX2_wrong K h b57 (1 : Int32) a2).bind fun x58 =>
  (rcv K x58.1 x58.2 3).bind fun q59 =>
  some (x58.1, .inl q59)
def fX2_more (K : KE) (h : HS) (a0 : Nat) (a1 : Option Nat) (a2 : Int32) : Option (HS × (Nat ⊕ Unit)) :=
  (rcv K h a1 20).bind fun b1 =>
  (fJ6_hashCode K h b1).bind fun x2 =>
  if x2.2 = -1881997444 then
    (rcv K x2.1 a1 20).bind fun b3 =>
    (fJ6_equals K x2.1 b3 (K.2.1 25)).bind fun x4 =>
    if x4 = 0 then
      fX2_more_179 K a0 x2.1 a2 (-1 : Int32)
    else
    fX2_more_179 K a0 x2.1 a2 (6 : Int32)
  else
  if x2.2 = -1383240722 then
    (rcv K x2.1 a1 20).bind fun b7 =>
    (fJ6_equals K x2.1 b7 (K.2.1 24)).bind fun x8 =>
    if x8 = 0 then
      fX2_more_179 K a0 x2.1 a2 (-1 : Int32)
    else
    fX2_more_179 K a0 x2.1 a2 (5 : Int32)
  else
  if x2.2 = -1106740561 then
    (rcv K x2.1 a1 20).bind fun b11 =>
    (fJ6_equals K x2.1 b11 (K.2.1 19)).bind fun x12 =>
    if x12 = 0 then
      fX2_more_179 K a0 x2.1 a2 (-1 : Int32)
    else
    fX2_more_179 K a0 x2.1 a2 (0 : Int32)
  else
  if x2.2 = 107877 then
    (rcv K x2.1 a1 20).bind fun b15 =>
    (fJ6_equals K x2.1 b15 (K.2.1 21)).bind fun x16 =>
    if x16 = 0 then
      fX2_more_179 K a0 x2.1 a2 (-1 : Int32)
    else
    fX2_more_179 K a0 x2.1 a2 (2 : Int32)
  else
  if x2.2 = 97188215 then
    (rcv K x2.1 a1 20).bind fun b19 =>
    (fJ6_equals K x2.1 b19 (K.2.1 20)).bind fun x20 =>
    if x20 = 0 then
      fX2_more_179 K a0 x2.1 a2 (-1 : Int32)
    else
    fX2_more_179 K a0 x2.1 a2 (1 : Int32)
  else
  if x2.2 = 106934601 then
    (rcv K x2.1 a1 20).bind fun b23 =>
    (fJ6_equals K x2.1 b23 (K.2.1 23)).bind fun x24 =>
    if x24 = 0 then
      fX2_more_179 K a0 x2.1 a2 (-1 : Int32)
    else
    fX2_more_179 K a0 x2.1 a2 (4 : Int32)
  else
  if x2.2 = 1926385031 then
    (rcv K x2.1 a1 20).bind fun b27 =>
    (fJ6_equals K x2.1 b27 (K.2.1 22)).bind fun x28 =>
    if x28 = 0 then
      fX2_more_179 K a0 x2.1 a2 (-1 : Int32)
    else
    fX2_more_179 K a0 x2.1 a2 (3 : Int32)
  else
  fX2_more_179 K a0 x2.1 a2 (-1 : Int32)
set_option maxHeartbeats 4000000 in
theorem wX2_more_287 {p : Program} {l : Launch} {e : Env} {s : State} {m : MethodId} {args : Array Value} {below : List Frame} {meth : Method} {c : Code} {A : Nat → Prop} {D : va_G} {ac : Nat → ClassId} {K : KE} {h0 : HS} {a0 : Nat} (S : CallFix p m c cX2_more 5 s args lw_all RX2) (hr : meth.sig.returnType = none) (hlk : meth.locks = false) (hnm : meth.name = "more") (hEx : ∀ x ∈ c.exceptionTable.toList, False) (hG : GK A D ac K s) (hRM : RM K s (rmC 718 33773 K h0)) {x : HS × (Nat ⊕ Unit)} : ∀ (h : HS) (a2 : Int32) (t1 : Int32), fX2_more_287 K a0 h a2 t1 = some x → cGo p l e (rmC 718 33773 K h0) s m args below meth c A D ac K (vy_MQ below (tQv A D ac K x) (tX A D ac K x) args s (K.2.2.1 - h0.2.1) (K.2.2.2 - h0.2.2) A) 5 287 [(0, va_rf (some a0)), (2, .int a2)] [.int t1, va_rf (some a0)] h := by
  obtain ⟨hx, hb, hml, hown, hts⟩ := id S
  intro h a2 t1 z H locs hH hS ls hl
  unfold fX2_more_287 at z
  refine lv_iload_n hx hb dX2_more_287 rfl (lv_at hl 1 rfl) ?_
  replace z := ob z
  obtain ⟨b1, zb1, z⟩ := z
  obtain ⟨yb1, zb1⟩ := rcv_e zb1
  replace z := ob z
  obtain ⟨x2, zx2, z⟩ := z
  refine t_callv hH hS hRM (fun _ _ f1 f2 => vy_runV (b := b1) (As := [.int t1, .int a2]) (rest := []) S (metX2_most zx2) (cwV 2 hts (lw_V q587 q589 qs6 q172 q590) rfl rfl rfl (by decide +kernel) ⟨(Nat.le_of_ble_eq_true rfl), (Nat.le_of_ble_eq_true rfl)⟩) (c_preV hG hH hS (ci := 2) rfl zb1) rfl rfl hl.1 (by rw [yb1]; rfl) (lv_room (Nat.le_of_ble_eq_true rfl)) dX2_more_288 ⟨f1, f2⟩) (fun q3 H locs ce e5 hH hS g1 g2 g3 => ?_) (fun v4 H locs e5 hH hS => ?_)
  · replace z := tb_l e5 z
    exact t_prop hEx hlk hH hS g1 g2 g3 z
  replace z := tb_r e5 z
  refine c_aload_n hx hb dX2_more_291 rfl (lv_at hl 0 rfl) ?_
  refine lv_bipush (v := (57 : Int32)) hx hb dX2_more_292 (by decide) ?_
  replace z := ob z
  obtain ⟨h6, zh6, z⟩ := z
  refine c_put S hG hH hS (ci := 2) (k := 5) rfl in_X2 tyX2 tyX2_ok nmX2 (Nat.le_of_ble_eq_true rfl) q387 (fun _ y => y) rfl (ty := .int) rfl rfl rfl zh6 dX2_more_294 (fun H locs hH hS => ?_)
  refine c_aload_n hx hb dX2_more_297 rfl (lv_at hl 0 rfl) ?_
  replace z := ob z
  obtain ⟨v7, zv7, z⟩ := z
  obtain ⟨fsv7, yv7, zv7⟩ := gR_e zv7
  refine c_get S hG hH (ci := 2) (k := 6) rfl in_X2 (Nat.le_of_ble_eq_true rfl) q388 (fun _ y => y) yv7 zv7 dX2_more_298 ?_
  refine c_aload_n hx hb dX2_more_301 rfl (lv_at hl 0 rfl) ?_
  replace z := ob z
  obtain ⟨b8, zb8, z⟩ := z
  obtain ⟨yb8, zb8⟩ := rcv_e zb8
  replace z := ob z
  obtain ⟨x9, zx9, z⟩ := z
  refine t_callq hH hS hRM (fun _ _ f1 f2 => vy_runV (b := b8) (As := []) (rest := [va_rf v7]) S (metX2_test (frR_ge 64) (rsD_ok 64) zx9) (cwV 0 hts (lw_V q1184 q1186 qs31 q172 q1187) rfl rfl rfl (by decide +kernel) ⟨(Nat.le_of_ble_eq_true rfl), (Nat.le_of_ble_eq_true rfl)⟩) (c_preV hG hH hS (ci := 2) rfl zb8) rfl rfl hl.1 (by rw [yb8]; rfl) (lv_room (by simp [ct_r, ct_i, ct_l])) dX2_more_302 ⟨f1, f2⟩) (fun q10 H locs ce e12 hH hS g1 g2 g3 => ?_) (fun v11 H locs e12 hH hS => ?_)
  · replace z := tb_l e12 z
    exact t_prop hEx hlk hH hS g1 g2 g3 z
  replace z := tb_r e12 z
  replace z := ob z
  obtain ⟨h13, zh13, z⟩ := z
  refine c_putN S hG hH hS (ci := 1) (k := 11) rfl in_X1 tyX1 tyX1_ok nmX1 (Nat.le_of_ble_eq_true rfl) q277 (fun _ y => y) rfl (ty := .object "FourOnOne$Test") rfl (nr_o _) (ft_o _) zh13 dX2_more_305 (fun H locs hH hS => ?_)
  refine lv_goto (tgt := 386) hx hb dX2_more_308 (by decide) ?_
  exact t_vret S hr hlk hH hS z dX2_more_386
set_option maxHeartbeats 4000000 in
theorem wX2_more_179 {p : Program} {l : Launch} {e : Env} {s : State} {m : MethodId} {args : Array Value} {below : List Frame} {meth : Method} {c : Code} {A : Nat → Prop} {D : va_G} {ac : Nat → ClassId} {K : KE} {h0 : HS} {a0 : Nat} (S : CallFix p m c cX2_more 5 s args lw_all RX2) (hr : meth.sig.returnType = none) (hlk : meth.locks = false) (hnm : meth.name = "more") (hEx : ∀ x ∈ c.exceptionTable.toList, False) (hG : GK A D ac K s) (hRM : RM K s (rmC 718 33773 K h0)) {x : HS × (Nat ⊕ Unit)} : ∀ (h : HS) (a2 : Int32) (a4 : Int32), fX2_more_179 K a0 h a2 a4 = some x → cGo p l e (rmC 718 33773 K h0) s m args below meth c A D ac K (vy_MQ below (tQv A D ac K x) (tX A D ac K x) args s (K.2.2.1 - h0.2.1) (K.2.2.2 - h0.2.2) A) 5 179 [(0, va_rf (some a0)), (2, .int a2), (4, .int a4)] [] h := by
  obtain ⟨hx, hb, hml, hown, hts⟩ := id S
  intro h a2 a4 z H locs hH hS ls hl
  unfold fX2_more_179 at z
  refine lv_iload hx hb dX2_more_179 (lv_at hl 2 rfl) ?_
  by_cases c10 : a4 = 0
  · replace z := it c10 z
    refine lv_tableIn (off := 43) (tgt := 224) hx hb dX2_more_181 (by rw [c10]; decide) (by rw [c10]; decide) (by rw [c10]; rfl) (by decide) ?_
    refine c_aload_n hx hb dX2_more_224 rfl (lv_at hl 0 rfl) ?_
    replace z := ob z
    obtain ⟨v1, zv1, z⟩ := z
    obtain ⟨fsv1, yv1, zv1⟩ := gR_e zv1
    refine c_get S hG hH (ci := 2) (k := 6) rfl in_X2 (Nat.le_of_ble_eq_true rfl) q388 (fun _ y => y) yv1 zv1 dX2_more_225 ?_
    refine c_aload_n hx hb dX2_more_228 rfl (lv_at hl 0 rfl) ?_
    refine c_aload_n hx hb dX2_more_229 rfl (lv_at hl 0 rfl) ?_
    replace z := ob z
    obtain ⟨v2, zv2, z⟩ := z
    obtain ⟨fsv2, yv2, zv2⟩ := gR_e zv2
    refine c_get S hG hH (ci := 2) (k := 6) rfl in_X2 (Nat.le_of_ble_eq_true rfl) q388 (fun _ y => y) yv2 zv2 dX2_more_230 ?_
    replace z := ob z
    obtain ⟨v3, zv3, z⟩ := z
    obtain ⟨fsv3, yv3, zv3⟩ := gR_e zv3
    refine c_getN S hG hH (ci := 1) (k := 9) rfl in_X1 (Nat.le_of_ble_eq_true rfl) q273 (fun _ y => y) yv3 zv3 dX2_more_233 ?_
    refine lv_iload_n hx hb dX2_more_236 rfl (lv_at hl 1 rfl) ?_
    refine lv_bipush (v := (7 : Int32)) hx hb dX2_more_237 (by decide) ?_
    replace z := ob z
    obtain ⟨b4, zb4, z⟩ := z
    obtain ⟨yb4, zb4⟩ := rcv_e zb4
    replace z := ob z
    obtain ⟨x5, zx5, z⟩ := z
    refine t_callq hH hS hRM (fun _ _ f1 f2 => vy_runV (b := b4) (As := [va_rf v3, .int a2, .int (7 : Int32)]) (rest := [va_rf v1]) S (metX2_once zx5) (cwV 3 hts (lw_V q988 q990 qs22 q172 q991) rfl rfl rfl (by decide +kernel) ⟨(Nat.le_of_ble_eq_true rfl), (Nat.le_of_ble_eq_true rfl)⟩) (c_preV hG hH hS (ci := 2) rfl zb4) rfl rfl hl.1 (by rw [yb4]; rfl) (lv_room (by simp [ct_r, ct_i, ct_l])) dX2_more_239 ⟨f1, f2⟩) (fun q6 H locs ce e8 hH hS g1 g2 g3 => ?_) (fun v7 H locs e8 hH hS => ?_)
    · replace z := tb_l e8 z
      exact t_prop hEx hlk hH hS g1 g2 g3 z
    replace z := tb_r e8 z
    replace z := ob z
    obtain ⟨h9, zh9, z⟩ := z
    refine c_putN S hG hH hS (ci := 1) (k := 9) rfl in_X1 tyX1 tyX1_ok nmX1 (Nat.le_of_ble_eq_true rfl) q273 (fun _ y => y) rfl (ty := .object "FourOnOne$Value") rfl (nr_o _) (ft_o _) zh9 dX2_more_242 (fun H locs hH hS => ?_)
    refine lv_goto (tgt := 386) hx hb dX2_more_245 (by decide) ?_
    exact t_vret S hr hlk hH hS z dX2_more_386
  replace z := ie c10 z
  by_cases c20 : a4 = 1
  · replace z := it c20 z
    refine lv_tableIn (off := 67) (tgt := 248) hx hb dX2_more_181 (by rw [c20]; decide) (by rw [c20]; decide) (by rw [c20]; rfl) (by decide) ?_
    refine c_aload_n hx hb dX2_more_248 rfl (lv_at hl 0 rfl) ?_
    replace z := ob z
    obtain ⟨v11, zv11, z⟩ := z
    obtain ⟨fsv11, yv11, zv11⟩ := gR_e zv11
    refine c_get S hG hH (ci := 2) (k := 6) rfl in_X2 (Nat.le_of_ble_eq_true rfl) q388 (fun _ y => y) yv11 zv11 dX2_more_249 ?_
    refine c_aload_n hx hb dX2_more_252 rfl (lv_at hl 0 rfl) ?_
    refine c_aload_n hx hb dX2_more_253 rfl (lv_at hl 0 rfl) ?_
    replace z := ob z
    obtain ⟨v12, zv12, z⟩ := z
    obtain ⟨fsv12, yv12, zv12⟩ := gR_e zv12
    refine c_get S hG hH (ci := 2) (k := 6) rfl in_X2 (Nat.le_of_ble_eq_true rfl) q388 (fun _ y => y) yv12 zv12 dX2_more_254 ?_
    replace z := ob z
    obtain ⟨v13, zv13, z⟩ := z
    obtain ⟨fsv13, yv13, zv13⟩ := gR_e zv13
    refine c_getN S hG hH (ci := 1) (k := 10) rfl in_X1 (Nat.le_of_ble_eq_true rfl) q275 (fun _ y => y) yv13 zv13 dX2_more_257 ?_
    refine lv_iload_n hx hb dX2_more_260 rfl (lv_at hl 1 rfl) ?_
    refine lv_iconst (v := (3 : Int32)) hx hb dX2_more_261 (by decide) ?_
    replace z := ob z
    obtain ⟨b14, zb14, z⟩ := z
    obtain ⟨yb14, zb14⟩ := rcv_e zb14
    replace z := ob z
    obtain ⟨x15, zx15, z⟩ := z
    refine t_callq hH hS hRM (fun _ _ f1 f2 => vy_runV (b := b14) (As := [va_rf v13, .int a2, .int (3 : Int32)]) (rest := [va_rf v11]) S (metX2_once zx15) (cwV 3 hts (lw_V q988 q990 qs22 q172 q991) rfl rfl rfl (by decide +kernel) ⟨(Nat.le_of_ble_eq_true rfl), (Nat.le_of_ble_eq_true rfl)⟩) (c_preV hG hH hS (ci := 2) rfl zb14) rfl rfl hl.1 (by rw [yb14]; rfl) (lv_room (by simp [ct_r, ct_i, ct_l])) dX2_more_262 ⟨f1, f2⟩) (fun q16 H locs ce e18 hH hS g1 g2 g3 => ?_) (fun v17 H locs e18 hH hS => ?_)
    · replace z := tb_l e18 z
      exact t_prop hEx hlk hH hS g1 g2 g3 z
    replace z := tb_r e18 z
    replace z := ob z
    obtain ⟨h19, zh19, z⟩ := z
    refine c_putN S hG hH hS (ci := 1) (k := 10) rfl in_X1 tyX1 tyX1_ok nmX1 (Nat.le_of_ble_eq_true rfl) q275 (fun _ y => y) rfl (ty := .object "FourOnOne$Value") rfl (nr_o _) (ft_o _) zh19 dX2_more_265 (fun H locs hH hS => ?_)
    refine lv_goto (tgt := 386) hx hb dX2_more_268 (by decide) ?_
    exact t_vret S hr hlk hH hS z dX2_more_386
  replace z := ie c20 z
  by_cases c24 : a4 = 2
  · replace z := it c24 z
    refine lv_tableIn (off := 90) (tgt := 271) hx hb dX2_more_181 (by rw [c24]; decide) (by rw [c24]; decide) (by rw [c24]; rfl) (by decide) ?_
    refine c_aload_n hx hb dX2_more_271 rfl (lv_at hl 0 rfl) ?_
    refine c_aload_n hx hb dX2_more_272 rfl (lv_at hl 0 rfl) ?_
    replace z := ob z
    obtain ⟨v21, zv21, z⟩ := z
    obtain ⟨fsv21, yv21, zv21⟩ := gR_e zv21
    refine c_get S hG hH (ci := 2) (k := 6) rfl in_X2 (Nat.le_of_ble_eq_true rfl) q388 (fun _ y => y) yv21 zv21 dX2_more_273 ?_
    replace z := ob z
    obtain ⟨v22, zv22, z⟩ := z
    obtain ⟨fsv22, yv22, zv22⟩ := gR_e zv22
    refine c_getN S hG hH (ci := 1) (k := 11) rfl in_X1 (Nat.le_of_ble_eq_true rfl) q277 (fun _ y => y) yv22 zv22 dX2_more_276 ?_
    refine c_ifnull (tgt := 286) hx hb dX2_more_279 (by decide) (fun c23 => ?_) (fun c23 => ?_)
    · replace z := it c23 z
      refine lv_iconst (v := (0 : Int32)) hx hb dX2_more_286 (by decide) ?_
      exact wX2_more_287 S hr hlk hnm hEx hG hRM h a2 (0 : Int32) z _ _ hH hS _ (lv_sub hl [0, 1] rfl)
    replace z := ie c23 z
    refine lv_iconst (v := (1 : Int32)) hx hb dX2_more_282 (by decide) ?_
    refine lv_goto (tgt := 287) hx hb dX2_more_283 (by decide) ?_
    exact wX2_more_287 S hr hlk hnm hEx hG hRM h a2 (1 : Int32) z _ _ hH hS _ (lv_sub hl [0, 1] rfl)
  replace z := ie c24 z
  by_cases c32 : a4 = 3
  · replace z := it c32 z
    refine lv_tableIn (off := 130) (tgt := 311) hx hb dX2_more_181 (by rw [c32]; decide) (by rw [c32]; decide) (by rw [c32]; rfl) (by decide) ?_
    refine c_aload_n hx hb dX2_more_311 rfl (lv_at hl 0 rfl) ?_
    replace z := ob z
    obtain ⟨v25, zv25, z⟩ := z
    obtain ⟨fsv25, yv25, zv25⟩ := gR_e zv25
    refine c_get S hG hH (ci := 2) (k := 6) rfl in_X2 (Nat.le_of_ble_eq_true rfl) q388 (fun _ y => y) yv25 zv25 dX2_more_312 ?_
    refine c_aload_n hx hb dX2_more_315 rfl (lv_at hl 0 rfl) ?_
    refine lv_iconst (v := (1 : Int32)) hx hb dX2_more_316 (by decide) ?_
    refine lv_iconst (v := (5 : Int32)) hx hb dX2_more_317 (by decide) ?_
    replace z := ob z
    obtain ⟨b26, zb26, z⟩ := z
    obtain ⟨yb26, zb26⟩ := rcv_e zb26
    replace z := ob z
    obtain ⟨x27, zx27, z⟩ := z
    refine t_calli hH hS hRM (fun _ _ f1 f2 => vy_runV (b := b26) (As := [.int (1 : Int32), .int (5 : Int32)]) (rest := [va_rf v25]) S (metX2_number_2 zx27) (cwV 2 hts (lw_V q919 q921 qs19 q172 q922) rfl rfl rfl (by decide +kernel) ⟨(Nat.le_of_ble_eq_true rfl), (Nat.le_of_ble_eq_true rfl)⟩) (c_preV hG hH hS (ci := 2) rfl zb26) rfl rfl hl.1 (by rw [yb26]; rfl) (lv_room (by simp [ct_r, ct_i, ct_l])) dX2_more_318 ⟨f1, f2⟩) (fun q28 H locs ce e30 hH hS g1 g2 g3 => ?_) (fun v29 H locs e30 hH hS => ?_)
    · replace z := tb_l e30 z
      exact t_prop hEx hlk hH hS g1 g2 g3 z
    replace z := tb_r e30 z
    replace z := ob z
    obtain ⟨h31, zh31, z⟩ := z
    refine c_putN S hG hH hS (ci := 1) (k := 2) rfl in_X1 tyX1 tyX1_ok nmX1 (Nat.le_of_ble_eq_true rfl) q255 (fun _ y => y) rfl (ty := .int) rfl rfl rfl zh31 dX2_more_321 (fun H locs hH hS => ?_)
    refine lv_goto (tgt := 386) hx hb dX2_more_324 (by decide) ?_
    exact t_vret S hr hlk hH hS z dX2_more_386
  replace z := ie c32 z
  by_cases c40 : a4 = 4
  · replace z := it c40 z
    refine lv_tableIn (off := 146) (tgt := 327) hx hb dX2_more_181 (by rw [c40]; decide) (by rw [c40]; decide) (by rw [c40]; rfl) (by decide) ?_
    refine c_aload_n hx hb dX2_more_327 rfl (lv_at hl 0 rfl) ?_
    replace z := ob z
    obtain ⟨v33, zv33, z⟩ := z
    obtain ⟨fsv33, yv33, zv33⟩ := gR_e zv33
    refine c_get S hG hH (ci := 2) (k := 6) rfl in_X2 (Nat.le_of_ble_eq_true rfl) q388 (fun _ y => y) yv33 zv33 dX2_more_328 ?_
    refine c_aload_n hx hb dX2_more_331 rfl (lv_at hl 0 rfl) ?_
    refine lv_iconst (v := (0 : Int32)) hx hb dX2_more_332 (by decide) ?_
    refine lv_sipush (v := (999 : Int32)) hx hb dX2_more_333 (by decide) ?_
    replace z := ob z
    obtain ⟨b34, zb34, z⟩ := z
    obtain ⟨yb34, zb34⟩ := rcv_e zb34
    replace z := ob z
    obtain ⟨x35, zx35, z⟩ := z
    refine t_calli hH hS hRM (fun _ _ f1 f2 => vy_runV (b := b34) (As := [.int (0 : Int32), .int (999 : Int32)]) (rest := [va_rf v33]) S (metX2_number_2 zx35) (cwV 2 hts (lw_V q919 q921 qs19 q172 q922) rfl rfl rfl (by decide +kernel) ⟨(Nat.le_of_ble_eq_true rfl), (Nat.le_of_ble_eq_true rfl)⟩) (c_preV hG hH hS (ci := 2) rfl zb34) rfl rfl hl.1 (by rw [yb34]; rfl) (lv_room (by simp [ct_r, ct_i, ct_l])) dX2_more_336 ⟨f1, f2⟩) (fun q36 H locs ce e38 hH hS g1 g2 g3 => ?_) (fun v37 H locs e38 hH hS => ?_)
    · replace z := tb_l e38 z
      exact t_prop hEx hlk hH hS g1 g2 g3 z
    replace z := tb_r e38 z
    replace z := ob z
    obtain ⟨h39, zh39, z⟩ := z
    refine c_putN S hG hH hS (ci := 1) (k := 3) rfl in_X1 tyX1 tyX1_ok nmX1 (Nat.le_of_ble_eq_true rfl) q257 (fun _ y => y) rfl (ty := .int) rfl rfl rfl zh39 dX2_more_339 (fun H locs hH hS => ?_)
    refine lv_goto (tgt := 386) hx hb dX2_more_342 (by decide) ?_
    exact t_vret S hr hlk hH hS z dX2_more_386
  replace z := ie c40 z
  by_cases c48 : a4 = 5
  · replace z := it c48 z
    refine lv_tableIn (off := 164) (tgt := 345) hx hb dX2_more_181 (by rw [c48]; decide) (by rw [c48]; decide) (by rw [c48]; rfl) (by decide) ?_
    refine c_aload_n hx hb dX2_more_345 rfl (lv_at hl 0 rfl) ?_
    replace z := ob z
    obtain ⟨v41, zv41, z⟩ := z
    obtain ⟨fsv41, yv41, zv41⟩ := gR_e zv41
    refine c_get S hG hH (ci := 2) (k := 6) rfl in_X2 (Nat.le_of_ble_eq_true rfl) q388 (fun _ y => y) yv41 zv41 dX2_more_346 ?_
    refine c_aload_n hx hb dX2_more_349 rfl (lv_at hl 0 rfl) ?_
    refine lv_iconst (v := (0 : Int32)) hx hb dX2_more_350 (by decide) ?_
    refine lv_bipush (v := (99 : Int32)) hx hb dX2_more_351 (by decide) ?_
    replace z := ob z
    obtain ⟨b42, zb42, z⟩ := z
    obtain ⟨yb42, zb42⟩ := rcv_e zb42
    replace z := ob z
    obtain ⟨x43, zx43, z⟩ := z
    refine t_calli hH hS hRM (fun _ _ f1 f2 => vy_runV (b := b42) (As := [.int (0 : Int32), .int (99 : Int32)]) (rest := [va_rf v41]) S (metX2_number_2 zx43) (cwV 2 hts (lw_V q919 q921 qs19 q172 q922) rfl rfl rfl (by decide +kernel) ⟨(Nat.le_of_ble_eq_true rfl), (Nat.le_of_ble_eq_true rfl)⟩) (c_preV hG hH hS (ci := 2) rfl zb42) rfl rfl hl.1 (by rw [yb42]; rfl) (lv_room (by simp [ct_r, ct_i, ct_l])) dX2_more_353 ⟨f1, f2⟩) (fun q44 H locs ce e46 hH hS g1 g2 g3 => ?_) (fun v45 H locs e46 hH hS => ?_)
    · replace z := tb_l e46 z
      exact t_prop hEx hlk hH hS g1 g2 g3 z
    replace z := tb_r e46 z
    replace z := ob z
    obtain ⟨h47, zh47, z⟩ := z
    refine c_putN S hG hH hS (ci := 1) (k := 4) rfl in_X1 tyX1 tyX1_ok nmX1 (Nat.le_of_ble_eq_true rfl) q260 (fun _ y => y) rfl (ty := .int) rfl rfl rfl zh47 dX2_more_356 (fun H locs hH hS => ?_)
    refine lv_goto (tgt := 386) hx hb dX2_more_359 (by decide) ?_
    exact t_vret S hr hlk hH hS z dX2_more_386
  replace z := ie c48 z
  by_cases c56 : a4 = 6
  · replace z := it c56 z
    refine lv_tableIn (off := 181) (tgt := 362) hx hb dX2_more_181 (by rw [c56]; decide) (by rw [c56]; decide) (by rw [c56]; rfl) (by decide) ?_
    refine c_aload_n hx hb dX2_more_362 rfl (lv_at hl 0 rfl) ?_
    replace z := ob z
    obtain ⟨v49, zv49, z⟩ := z
    obtain ⟨fsv49, yv49, zv49⟩ := gR_e zv49
    refine c_get S hG hH (ci := 2) (k := 6) rfl in_X2 (Nat.le_of_ble_eq_true rfl) q388 (fun _ y => y) yv49 zv49 dX2_more_363 ?_
    refine c_aload_n hx hb dX2_more_366 rfl (lv_at hl 0 rfl) ?_
    refine lv_iconst (v := (0 : Int32)) hx hb dX2_more_367 (by decide) ?_
    refine lv_bipush (v := (100 : Int32)) hx hb dX2_more_368 (by decide) ?_
    replace z := ob z
    obtain ⟨b50, zb50, z⟩ := z
    obtain ⟨yb50, zb50⟩ := rcv_e zb50
    replace z := ob z
    obtain ⟨x51, zx51, z⟩ := z
    refine t_calli hH hS hRM (fun _ _ f1 f2 => vy_runV (b := b50) (As := [.int (0 : Int32), .int (100 : Int32)]) (rest := [va_rf v49]) S (metX2_number_2 zx51) (cwV 2 hts (lw_V q919 q921 qs19 q172 q922) rfl rfl rfl (by decide +kernel) ⟨(Nat.le_of_ble_eq_true rfl), (Nat.le_of_ble_eq_true rfl)⟩) (c_preV hG hH hS (ci := 2) rfl zb50) rfl rfl hl.1 (by rw [yb50]; rfl) (lv_room (by simp [ct_r, ct_i, ct_l])) dX2_more_370 ⟨f1, f2⟩) (fun q52 H locs ce e54 hH hS g1 g2 g3 => ?_) (fun v53 H locs e54 hH hS => ?_)
    · replace z := tb_l e54 z
      exact t_prop hEx hlk hH hS g1 g2 g3 z
    replace z := tb_r e54 z
    replace z := ob z
    obtain ⟨h55, zh55, z⟩ := z
    refine c_putN S hG hH hS (ci := 1) (k := 5) rfl in_X1 tyX1 tyX1_ok nmX1 (Nat.le_of_ble_eq_true rfl) q261 (fun _ y => y) rfl (ty := .int) rfl rfl rfl zh55 dX2_more_373 (fun H locs hH hS => ?_)
    refine lv_goto (tgt := 386) hx hb dX2_more_376 (by decide) ?_
    exact t_vret S hr hlk hH hS z dX2_more_386
  replace z := ie c56 z
  refine lv_tableOut (tgt := 379) hx hb dX2_more_181 (sw_out0_7 c10 c20 c24 c32 c40 c48 c56) (by decide) ?_
  refine c_aload_n hx hb dX2_more_379 rfl (lv_at hl 0 rfl) ?_
  refine lv_iconst (v := (1 : Int32)) hx hb dX2_more_380 (by decide) ?_
  refine lv_iload_n hx hb dX2_more_381 rfl (lv_at hl 1 rfl) ?_
  replace z := ob z
  obtain ⟨b57, zb57, z⟩ := z
  obtain ⟨yb57, zb57⟩ := rcv_e zb57
  replace z := ob z
  obtain ⟨x58, zx58, z⟩ := z
  refine c_callq hH hS hRM (fun _ _ f1 f2 => va_runV (b := b57) (As := [.int (1 : Int32), .int a2]) (rest := []) S (metX2_wrong zx58) (cwV 2 hts (lw_V q591 q593 qs7 q172 q594) rfl rfl rfl (by decide +kernel) ⟨(Nat.le_of_ble_eq_true rfl), (Nat.le_of_ble_eq_true rfl)⟩) (c_preV hG hH hS (ci := 2) rfl zb57) rfl rfl hl.1 (by rw [yb57]; rfl) (lv_room (Nat.le_of_ble_eq_true rfl)) dX2_more_382 ⟨f1, f2⟩) (fun H locs hH hS => ?_)
  replace z := ob z
  obtain ⟨q59, zq59, z⟩ := z
  exact t_throw S hG hEx hlk zq59 hH hS z dX2_more_385
set_option maxHeartbeats 4000000 in
theorem metX2_more {l : Launch} {A : Nat → Prop} {D : va_G} {ac : Nat → ClassId} {K : KE} {h : HS} {a0 : Nat} {a1 : Option Nat} {a2 : Int32} {x : HS × (Nat ⊕ Unit)} (z : fX2_more K h a0 a1 a2 = some x) : vy_Met l yX2_more (ws_ yX2_more cX2_more 5 (none)) (rmC 718 33773 K h) (cP A D ac K h [va_rf (some a0), va_rf a1, .int a2]) (tQv A D ac K x) (tX A D ac K x) (K.2.2.1 - h.2.1) (K.2.2.2 - h.2.2) A := by
  refine t_entry (by decide) (by simp [lg_sl, ct_r, ct_i, ct_l]) ?_
  intro p e s m below meth c S hr hlk hnm hEx hG hRM hH hS ls hl
  replace hl : lv_has ls 5 [(0, va_rf (some a0)), (1, va_rf a1), (2, .int a2)] := (by simpa [lv_args, ct_r, ct_i, ct_l] using hl)
  replace hnm : meth.name = "more" := hnm
  replace S : CallFix p m c cX2_more 5 s _ lw_all RX2 := S
  obtain ⟨hx, hb, hml, hown, hts⟩ := id S
  unfold fX2_more at z
  refine c_aload_n hx hb dX2_more_0 rfl (lv_at hl 1 rfl) ?_
  refine c_astore_n (lv' := [(3, va_rf a1), (0, va_rf (some a0)), (1, va_rf a1), (2, .int a2)]) hx hb dX2_more_1 rfl hl (by decide) rfl (fun ls hl => ?_)
  refine lv_iconst (v := (-1 : Int32)) hx hb dX2_more_2 (by decide) ?_
  refine lv_istore (lv' := [(4, .int (-1 : Int32)), (3, va_rf a1), (0, va_rf (some a0)), (1, va_rf a1), (2, .int a2)]) hx hb dX2_more_3 hl (by decide) (by simp [List.filter, ct_r, ct_i, ct_l]) (fun ls hl => ?_)
  refine c_aload_n hx hb dX2_more_5 rfl (lv_at hl 1 rfl) ?_
  replace z := ob z
  obtain ⟨b1, zb1, z⟩ := z
  obtain ⟨yb1, zb1⟩ := rcv_e zb1
  replace z := ob z
  obtain ⟨x2, zx2, z⟩ := z
  refine c_calli hH hS hRM (fun _ _ f1 f2 => va_runV (b := b1) (As := []) (rest := []) S (metJ6_hashCode zx2) (cwV 0 hts (lw_V q691 q692 q693 q180 q694) rfl rfl rfl (by decide +kernel) ⟨(Nat.le_of_ble_eq_true rfl), (Nat.le_of_ble_eq_true rfl)⟩) (c_preV hG hH hS (ci := 20) rfl zb1) rfl rfl hl.1 (by rw [yb1]; rfl) (lv_room (Nat.le_of_ble_eq_true rfl)) dX2_more_6 ⟨f1, f2⟩) (fun H locs hH hS => ?_)
  by_cases c6 : x2.2 = -1881997444
  · replace z := it c6 z
    refine lv_lookup (off := 157) (tgt := 166) hx hb dX2_more_9 (by decide) (by rw [c6]; rfl) (by decide) ?_
    refine c_aload_n hx hb dX2_more_166 rfl (lv_at hl 1 rfl) ?_
    refine c_ldcS S hG (i := 25) (tx := "strange") (List.mem_of_getElem? (i := 15) rfl) dX2_more_167 ?_
    replace z := ob z
    obtain ⟨b3, zb3, z⟩ := z
    obtain ⟨yb3, zb3⟩ := rcv_e zb3
    replace z := ob z
    obtain ⟨x4, zx4, z⟩ := z
    refine c_calli hH hS hRM (fun _ _ f1 f2 => va_runV (b := b3) (As := [va_rf (K.2.1 25)]) (rest := []) S (metJ6_equals zx4) (cwV 1 hts (lw_V q745 q746 q747 q180 q748) rfl rfl rfl (by decide +kernel) ⟨(Nat.le_of_ble_eq_true rfl), (Nat.le_of_ble_eq_true rfl)⟩) (c_preV hG hH hS (ci := 20) rfl zb3) rfl rfl hl.1 (by rw [yb3]; rfl) (lv_room (Nat.le_of_ble_eq_true rfl)) dX2_more_169 ⟨f1, f2⟩) (fun H locs hH hS => ?_)
    refine lv_if_eq (tgt := 179) hx hb dX2_more_172 (by decide) (fun c5 => ?_) (fun c5 => ?_)
    · replace z := it c5 z
      exact wX2_more_179 S hr hlk hnm hEx hG hRM x2.1 a2 (-1 : Int32) z _ _ hH hS _ (lv_sub hl [2, 4, 0] rfl)
    replace z := ie c5 z
    refine lv_bipush (v := (6 : Int32)) hx hb dX2_more_175 (by decide) ?_
    refine lv_istore (lv' := [(4, .int (6 : Int32)), (3, va_rf a1), (0, va_rf (some a0)), (1, va_rf a1), (2, .int a2)]) hx hb dX2_more_177 hl (by decide) (by simp [List.filter, ct_r, ct_i, ct_l]) (fun ls hl => ?_)
    exact wX2_more_179 S hr hlk hnm hEx hG hRM x2.1 a2 (6 : Int32) z _ _ hH hS _ (lv_sub hl [2, 4, 0] rfl)
  replace z := ie c6 z
  by_cases c10 : x2.2 = -1383240722
  · replace z := it c10 z
    refine lv_lookup (off := 142) (tgt := 151) hx hb dX2_more_9 (by decide) (by rw [c10]; rfl) (by decide) ?_
    refine c_aload_n hx hb dX2_more_151 rfl (lv_at hl 1 rfl) ?_
    refine c_ldcS S hG (i := 24) (tx := "bother") (List.mem_of_getElem? (i := 14) rfl) dX2_more_152 ?_
    replace z := ob z
    obtain ⟨b7, zb7, z⟩ := z
    obtain ⟨yb7, zb7⟩ := rcv_e zb7
    replace z := ob z
    obtain ⟨x8, zx8, z⟩ := z
    refine c_calli hH hS hRM (fun _ _ f1 f2 => va_runV (b := b7) (As := [va_rf (K.2.1 24)]) (rest := []) S (metJ6_equals zx8) (cwV 1 hts (lw_V q745 q746 q747 q180 q748) rfl rfl rfl (by decide +kernel) ⟨(Nat.le_of_ble_eq_true rfl), (Nat.le_of_ble_eq_true rfl)⟩) (c_preV hG hH hS (ci := 20) rfl zb7) rfl rfl hl.1 (by rw [yb7]; rfl) (lv_room (Nat.le_of_ble_eq_true rfl)) dX2_more_154 ⟨f1, f2⟩) (fun H locs hH hS => ?_)
    refine lv_if_eq (tgt := 179) hx hb dX2_more_157 (by decide) (fun c9 => ?_) (fun c9 => ?_)
    · replace z := it c9 z
      exact wX2_more_179 S hr hlk hnm hEx hG hRM x2.1 a2 (-1 : Int32) z _ _ hH hS _ (lv_sub hl [2, 4, 0] rfl)
    replace z := ie c9 z
    refine lv_iconst (v := (5 : Int32)) hx hb dX2_more_160 (by decide) ?_
    refine lv_istore (lv' := [(4, .int (5 : Int32)), (3, va_rf a1), (0, va_rf (some a0)), (1, va_rf a1), (2, .int a2)]) hx hb dX2_more_161 hl (by decide) (by simp [List.filter, ct_r, ct_i, ct_l]) (fun ls hl => ?_)
    refine lv_goto (tgt := 179) hx hb dX2_more_163 (by decide) ?_
    exact wX2_more_179 S hr hlk hnm hEx hG hRM x2.1 a2 (5 : Int32) z _ _ hH hS _ (lv_sub hl [2, 4, 0] rfl)
  replace z := ie c10 z
  by_cases c14 : x2.2 = -1106740561
  · replace z := it c14 z
    refine lv_lookup (off := 67) (tgt := 76) hx hb dX2_more_9 (by decide) (by rw [c14]; rfl) (by decide) ?_
    refine c_aload_n hx hb dX2_more_76 rfl (lv_at hl 1 rfl) ?_
    refine c_ldcS S hG (i := 19) (tx := "learns") (List.mem_of_getElem? (i := 9) rfl) dX2_more_77 ?_
    replace z := ob z
    obtain ⟨b11, zb11, z⟩ := z
    obtain ⟨yb11, zb11⟩ := rcv_e zb11
    replace z := ob z
    obtain ⟨x12, zx12, z⟩ := z
    refine c_calli hH hS hRM (fun _ _ f1 f2 => va_runV (b := b11) (As := [va_rf (K.2.1 19)]) (rest := []) S (metJ6_equals zx12) (cwV 1 hts (lw_V q745 q746 q747 q180 q748) rfl rfl rfl (by decide +kernel) ⟨(Nat.le_of_ble_eq_true rfl), (Nat.le_of_ble_eq_true rfl)⟩) (c_preV hG hH hS (ci := 20) rfl zb11) rfl rfl hl.1 (by rw [yb11]; rfl) (lv_room (Nat.le_of_ble_eq_true rfl)) dX2_more_79 ⟨f1, f2⟩) (fun H locs hH hS => ?_)
    refine lv_if_eq (tgt := 179) hx hb dX2_more_82 (by decide) (fun c13 => ?_) (fun c13 => ?_)
    · replace z := it c13 z
      exact wX2_more_179 S hr hlk hnm hEx hG hRM x2.1 a2 (-1 : Int32) z _ _ hH hS _ (lv_sub hl [2, 4, 0] rfl)
    replace z := ie c13 z
    refine lv_iconst (v := (0 : Int32)) hx hb dX2_more_85 (by decide) ?_
    refine lv_istore (lv' := [(4, .int (0 : Int32)), (3, va_rf a1), (0, va_rf (some a0)), (1, va_rf a1), (2, .int a2)]) hx hb dX2_more_86 hl (by decide) (by simp [List.filter, ct_r, ct_i, ct_l]) (fun ls hl => ?_)
    refine lv_goto (tgt := 179) hx hb dX2_more_88 (by decide) ?_
    exact wX2_more_179 S hr hlk hnm hEx hG hRM x2.1 a2 (0 : Int32) z _ _ hH hS _ (lv_sub hl [2, 4, 0] rfl)
  replace z := ie c14 z
  by_cases c18 : x2.2 = 107877
  · replace z := it c18 z
    refine lv_lookup (off := 97) (tgt := 106) hx hb dX2_more_9 (by decide) (by rw [c18]; rfl) (by decide) ?_
    refine c_aload_n hx hb dX2_more_106 rfl (lv_at hl 1 rfl) ?_
    refine c_ldcS S hG (i := 21) (tx := "may") (List.mem_of_getElem? (i := 11) rfl) dX2_more_107 ?_
    replace z := ob z
    obtain ⟨b15, zb15, z⟩ := z
    obtain ⟨yb15, zb15⟩ := rcv_e zb15
    replace z := ob z
    obtain ⟨x16, zx16, z⟩ := z
    refine c_calli hH hS hRM (fun _ _ f1 f2 => va_runV (b := b15) (As := [va_rf (K.2.1 21)]) (rest := []) S (metJ6_equals zx16) (cwV 1 hts (lw_V q745 q746 q747 q180 q748) rfl rfl rfl (by decide +kernel) ⟨(Nat.le_of_ble_eq_true rfl), (Nat.le_of_ble_eq_true rfl)⟩) (c_preV hG hH hS (ci := 20) rfl zb15) rfl rfl hl.1 (by rw [yb15]; rfl) (lv_room (Nat.le_of_ble_eq_true rfl)) dX2_more_109 ⟨f1, f2⟩) (fun H locs hH hS => ?_)
    refine lv_if_eq (tgt := 179) hx hb dX2_more_112 (by decide) (fun c17 => ?_) (fun c17 => ?_)
    · replace z := it c17 z
      exact wX2_more_179 S hr hlk hnm hEx hG hRM x2.1 a2 (-1 : Int32) z _ _ hH hS _ (lv_sub hl [2, 4, 0] rfl)
    replace z := ie c17 z
    refine lv_iconst (v := (2 : Int32)) hx hb dX2_more_115 (by decide) ?_
    refine lv_istore (lv' := [(4, .int (2 : Int32)), (3, va_rf a1), (0, va_rf (some a0)), (1, va_rf a1), (2, .int a2)]) hx hb dX2_more_116 hl (by decide) (by simp [List.filter, ct_r, ct_i, ct_l]) (fun ls hl => ?_)
    refine lv_goto (tgt := 179) hx hb dX2_more_118 (by decide) ?_
    exact wX2_more_179 S hr hlk hnm hEx hG hRM x2.1 a2 (2 : Int32) z _ _ hH hS _ (lv_sub hl [2, 4, 0] rfl)
  replace z := ie c18 z
  by_cases c22 : x2.2 = 97188215
  · replace z := it c22 z
    refine lv_lookup (off := 82) (tgt := 91) hx hb dX2_more_9 (by decide) (by rw [c22]; rfl) (by decide) ?_
    refine c_aload_n hx hb dX2_more_91 rfl (lv_at hl 1 rfl) ?_
    refine c_ldcS S hG (i := 20) (tx := "fades") (List.mem_of_getElem? (i := 10) rfl) dX2_more_92 ?_
    replace z := ob z
    obtain ⟨b19, zb19, z⟩ := z
    obtain ⟨yb19, zb19⟩ := rcv_e zb19
    replace z := ob z
    obtain ⟨x20, zx20, z⟩ := z
    refine c_calli hH hS hRM (fun _ _ f1 f2 => va_runV (b := b19) (As := [va_rf (K.2.1 20)]) (rest := []) S (metJ6_equals zx20) (cwV 1 hts (lw_V q745 q746 q747 q180 q748) rfl rfl rfl (by decide +kernel) ⟨(Nat.le_of_ble_eq_true rfl), (Nat.le_of_ble_eq_true rfl)⟩) (c_preV hG hH hS (ci := 20) rfl zb19) rfl rfl hl.1 (by rw [yb19]; rfl) (lv_room (Nat.le_of_ble_eq_true rfl)) dX2_more_94 ⟨f1, f2⟩) (fun H locs hH hS => ?_)
    refine lv_if_eq (tgt := 179) hx hb dX2_more_97 (by decide) (fun c21 => ?_) (fun c21 => ?_)
    · replace z := it c21 z
      exact wX2_more_179 S hr hlk hnm hEx hG hRM x2.1 a2 (-1 : Int32) z _ _ hH hS _ (lv_sub hl [2, 4, 0] rfl)
    replace z := ie c21 z
    refine lv_iconst (v := (1 : Int32)) hx hb dX2_more_100 (by decide) ?_
    refine lv_istore (lv' := [(4, .int (1 : Int32)), (3, va_rf a1), (0, va_rf (some a0)), (1, va_rf a1), (2, .int a2)]) hx hb dX2_more_101 hl (by decide) (by simp [List.filter, ct_r, ct_i, ct_l]) (fun ls hl => ?_)
    refine lv_goto (tgt := 179) hx hb dX2_more_103 (by decide) ?_
    exact wX2_more_179 S hr hlk hnm hEx hG hRM x2.1 a2 (1 : Int32) z _ _ hH hS _ (lv_sub hl [2, 4, 0] rfl)
  replace z := ie c22 z
  by_cases c26 : x2.2 = 106934601
  · replace z := it c26 z
    refine lv_lookup (off := 127) (tgt := 136) hx hb dX2_more_9 (by decide) (by rw [c26]; rfl) (by decide) ?_
    refine c_aload_n hx hb dX2_more_136 rfl (lv_at hl 1 rfl) ?_
    refine c_ldcS S hG (i := 23) (tx := "price") (List.mem_of_getElem? (i := 13) rfl) dX2_more_137 ?_
    replace z := ob z
    obtain ⟨b23, zb23, z⟩ := z
    obtain ⟨yb23, zb23⟩ := rcv_e zb23
    replace z := ob z
    obtain ⟨x24, zx24, z⟩ := z
    refine c_calli hH hS hRM (fun _ _ f1 f2 => va_runV (b := b23) (As := [va_rf (K.2.1 23)]) (rest := []) S (metJ6_equals zx24) (cwV 1 hts (lw_V q745 q746 q747 q180 q748) rfl rfl rfl (by decide +kernel) ⟨(Nat.le_of_ble_eq_true rfl), (Nat.le_of_ble_eq_true rfl)⟩) (c_preV hG hH hS (ci := 20) rfl zb23) rfl rfl hl.1 (by rw [yb23]; rfl) (lv_room (Nat.le_of_ble_eq_true rfl)) dX2_more_139 ⟨f1, f2⟩) (fun H locs hH hS => ?_)
    refine lv_if_eq (tgt := 179) hx hb dX2_more_142 (by decide) (fun c25 => ?_) (fun c25 => ?_)
    · replace z := it c25 z
      exact wX2_more_179 S hr hlk hnm hEx hG hRM x2.1 a2 (-1 : Int32) z _ _ hH hS _ (lv_sub hl [2, 4, 0] rfl)
    replace z := ie c25 z
    refine lv_iconst (v := (4 : Int32)) hx hb dX2_more_145 (by decide) ?_
    refine lv_istore (lv' := [(4, .int (4 : Int32)), (3, va_rf a1), (0, va_rf (some a0)), (1, va_rf a1), (2, .int a2)]) hx hb dX2_more_146 hl (by decide) (by simp [List.filter, ct_r, ct_i, ct_l]) (fun ls hl => ?_)
    refine lv_goto (tgt := 179) hx hb dX2_more_148 (by decide) ?_
    exact wX2_more_179 S hr hlk hnm hEx hG hRM x2.1 a2 (4 : Int32) z _ _ hH hS _ (lv_sub hl [2, 4, 0] rfl)
  replace z := ie c26 z
  by_cases c30 : x2.2 = 1926385031
  · replace z := it c30 z
    refine lv_lookup (off := 112) (tgt := 121) hx hb dX2_more_9 (by decide) (by rw [c30]; rfl) (by decide) ?_
    refine c_aload_n hx hb dX2_more_121 rfl (lv_at hl 1 rfl) ?_
    refine c_ldcS S hG (i := 22) (tx := "screens") (List.mem_of_getElem? (i := 12) rfl) dX2_more_122 ?_
    replace z := ob z
    obtain ⟨b27, zb27, z⟩ := z
    obtain ⟨yb27, zb27⟩ := rcv_e zb27
    replace z := ob z
    obtain ⟨x28, zx28, z⟩ := z
    refine c_calli hH hS hRM (fun _ _ f1 f2 => va_runV (b := b27) (As := [va_rf (K.2.1 22)]) (rest := []) S (metJ6_equals zx28) (cwV 1 hts (lw_V q745 q746 q747 q180 q748) rfl rfl rfl (by decide +kernel) ⟨(Nat.le_of_ble_eq_true rfl), (Nat.le_of_ble_eq_true rfl)⟩) (c_preV hG hH hS (ci := 20) rfl zb27) rfl rfl hl.1 (by rw [yb27]; rfl) (lv_room (Nat.le_of_ble_eq_true rfl)) dX2_more_124 ⟨f1, f2⟩) (fun H locs hH hS => ?_)
    refine lv_if_eq (tgt := 179) hx hb dX2_more_127 (by decide) (fun c29 => ?_) (fun c29 => ?_)
    · replace z := it c29 z
      exact wX2_more_179 S hr hlk hnm hEx hG hRM x2.1 a2 (-1 : Int32) z _ _ hH hS _ (lv_sub hl [2, 4, 0] rfl)
    replace z := ie c29 z
    refine lv_iconst (v := (3 : Int32)) hx hb dX2_more_130 (by decide) ?_
    refine lv_istore (lv' := [(4, .int (3 : Int32)), (3, va_rf a1), (0, va_rf (some a0)), (1, va_rf a1), (2, .int a2)]) hx hb dX2_more_131 hl (by decide) (by simp [List.filter, ct_r, ct_i, ct_l]) (fun ls hl => ?_)
    refine lv_goto (tgt := 179) hx hb dX2_more_133 (by decide) ?_
    exact wX2_more_179 S hr hlk hnm hEx hG hRM x2.1 a2 (3 : Int32) z _ _ hH hS _ (lv_sub hl [2, 4, 0] rfl)
  replace z := ie c30 z
  refine lv_lookup (off := 170) (tgt := 179) hx hb dX2_more_9 (by decide) (by show Op.lookupswitch.offset [((-1881997444), 157), ((-1383240722), 142), ((-1106740561), 67), (107877, 97), (97188215, 82), (106934601, 127), (1926385031, 112)] 170 _ = 170; rw [lv_osw (a := -1881997444) c6 (by decide), lv_osw (a := -1383240722) c10 (by decide), lv_osw (a := -1106740561) c14 (by decide), lv_osw (a := 107877) c18 (by decide), lv_osw (a := 97188215) c22 (by decide), lv_osw (a := 106934601) c26 (by decide), lv_osw (a := 1926385031) c30 (by decide)]; rfl) (by decide) ?_
  exact wX2_more_179 S hr hlk hnm hEx hG hRM x2.1 a2 (-1 : Int32) z _ _ hH hS _ (lv_sub hl [2, 4, 0] rfl)
/-! FourOnOne$Reader.all(I)LFourOnOne$House; -/
def fX2_all_98 (K : KE) (a0 : Nat) (k26 : HS → Option (HS × (Nat ⊕ Option Nat))) (h : HS) : Option (HS × (Nat ⊕ Option Nat)) :=
  (rcv K h (some a0) 2).bind fun b1 =>
  (fX2_must K h b1 (59 : Int32)).bind fun x2 =>
  tb x2 (fun q3 => some (x2.1, .inl q3)) fun v4 =>
  k26 x2.1
def fX2_all_52 (K : KE) (a0 : Nat) (k26 : HS → Option (HS × (Nat ⊕ Option Nat))) (h : HS) (t1 : Int32) : Option (HS × (Nat ⊕ Option Nat)) :=
  (gI K h (some a0) 2 2).bind fun v1 =>
  (rcv K h (some a0) 2).bind fun b2 =>
  (fX2_most K h b2 t1 v1).bind fun x3 =>
  tb x3 (fun q4 => some (x3.1, .inl q4)) fun v5 =>
  (gR K x3.1 (some a0) 2 6).bind fun v7 =>
  (gI K x3.1 v7 1 0).bind fun v8 =>
  (pV x3.1 v7 1 0 (.int (v8 + (1 : Int32)))).bind fun h9 =>
  (rcv K h9 (some a0) 2).bind fun b10 =>
  (fX2_word K h9 b10).bind fun x11 =>
  tb x11 (fun q12 => some (x11.1, .inl q12)) fun v13 =>
  (gI K x11.1 (some a0) 2 3).bind fun v15 =>
  (rcv K x11.1 (some a0) 2).bind fun b16 =>
  (fX2_told K x11.1 b16 v13 v15).bind fun x17 =>
  tb x17 (fun q18 => some (x17.1, .inl q18)) fun v19 =>
  if v19 = 0 then
    (gI K x17.1 (some a0) 2 3).bind fun v22 =>
    (rcv K x17.1 (some a0) 2).bind fun b23 =>
    (fX2_more K x17.1 b23 v13 v22).bind fun x24 =>
    tb x24 (fun q25 => some (x24.1, .inl q25)) fun v26 =>
    fX2_all_98 K a0 k26 x24.1
  else
  fX2_all_98 K a0 k26 x17.1
def fX2_all_26 (K : KE) (a0 : Nat) : Nat → HS → Option (HS × (Nat ⊕ Option Nat))
  | 0, _ => none
  | n + 1, h =>
    (rcv K h (some a0) 2).bind fun b1 =>
    (fX2_here K h b1).bind fun x2 =>
    if x2.2 = (-1 : Int32) then
      (gR K x2.1 (some a0) 2 6).bind fun v4 =>
      some (x2.1, .inr v4)
    else
    (gR K x2.1 (some a0) 2 6).bind fun v5 =>
    (gI K x2.1 v5 1 0).bind fun v6 =>
    if v6 = (80 : Int32) then
      fX2_all_52 K a0 (fun h' => fX2_all_26 K a0 n h') x2.1 (1 : Int32)
    else
    fX2_all_52 K a0 (fun h' => fX2_all_26 K a0 n h') x2.1 (0 : Int32)
def fX2_all (K : KE) (h : HS) (a0 : Nat) (a1 : Int32) : Option (HS × (Nat ⊕ Option Nat)) :=
  (alc K h (.inr (1, df1)) 12).bind fun h1 =>
  (fX1_init K h1 h.2.1).bind fun x2 =>
  (pV x2 (some a0) 2 6 (va_rf (some h.2.1))).bind fun h3 =>
  (pV h3 (some a0) 2 1 (.int a1)).bind fun h4 =>
  (pV h4 (some a0) 2 2 (.int (0 : Int32))).bind fun h5 =>
  (pV h5 (some a0) 2 4 (.int (0 : Int32))).bind fun h6 =>
  fX2_all_26 K a0 FU h6
set_option maxHeartbeats 4000000 in
theorem wX2_all_98 {p : Program} {l : Launch} {e : Env} {s : State} {m : MethodId} {args : Array Value} {below : List Frame} {meth : Method} {c : Code} {A : Nat → Prop} {D : va_G} {ac : Nat → ClassId} {K : KE} {h0 : HS} {a0 : Nat} (S : CallFix p m c cX2_all 3 s args lw_all RX2) (hr : meth.sig.returnType = some (.object "FourOnOne$House")) (hlk : meth.locks = false) (hnm : meth.name = "all") (hEx : ∀ x ∈ c.exceptionTable.toList, False) (hG : GK A D ac K s) (hRM : RM K s (rmC 719 33797 K h0)) {x : HS × (Nat ⊕ Option Nat)} {k26 : HS → Option (HS × (Nat ⊕ Option Nat))} (hk26 : ∀ h, k26 h = some x → cGo p l e (rmC 719 33797 K h0) s m args below meth c A D ac K (vy_MQ below (tQq A D ac K x) (tX A D ac K x) args s (K.2.2.1 - h0.2.1) (K.2.2.2 - h0.2.2) A) 3 26 [(0, va_rf (some a0))] [] h) : ∀ (h : HS), fX2_all_98 K a0 k26 h = some x → cGo p l e (rmC 719 33797 K h0) s m args below meth c A D ac K (vy_MQ below (tQq A D ac K x) (tX A D ac K x) args s (K.2.2.1 - h0.2.1) (K.2.2.2 - h0.2.2) A) 3 98 [(0, va_rf (some a0))] [] h := by
  obtain ⟨hx, hb, hml, hown, hts⟩ := id S
  intro h z H locs hH hS ls hl
  unfold fX2_all_98 at z
  refine c_aload_n hx hb dX2_all_98 rfl (lv_at hl 0 rfl) ?_
  refine lv_bipush (v := (59 : Int32)) hx hb dX2_all_99 (by decide) ?_
  replace z := ob z
  obtain ⟨b1, zb1, z⟩ := z
  obtain ⟨yb1, zb1⟩ := rcv_e zb1
  replace z := ob z
  obtain ⟨x2, zx2, z⟩ := z
  refine t_callv hH hS hRM (fun _ _ f1 f2 => vy_runV (b := b1) (As := [.int (59 : Int32)]) (rest := []) S (metX2_must zx2) (cwV 1 hts (lw_V q1053 q1055 qs28 q172 q1056) rfl rfl rfl (by decide +kernel) ⟨(Nat.le_of_ble_eq_true rfl), (Nat.le_of_ble_eq_true rfl)⟩) (c_preV hG hH hS (ci := 2) rfl zb1) rfl rfl hl.1 (by rw [yb1]; rfl) (lv_room (Nat.le_of_ble_eq_true rfl)) dX2_all_101 ⟨f1, f2⟩) (fun q3 H locs ce e5 hH hS g1 g2 g3 => ?_) (fun v4 H locs e5 hH hS => ?_)
  · replace z := tb_l e5 z
    exact t_prop hEx hlk hH hS g1 g2 g3 z
  replace z := tb_r e5 z
  refine lv_goto (tgt := 26) hx hb dX2_all_104 (by decide) ?_
  exact hk26 x2.1 z _ _ hH hS _ (lv_sub hl [0] rfl)
set_option maxHeartbeats 4000000 in
theorem wX2_all_52 {p : Program} {l : Launch} {e : Env} {s : State} {m : MethodId} {args : Array Value} {below : List Frame} {meth : Method} {c : Code} {A : Nat → Prop} {D : va_G} {ac : Nat → ClassId} {K : KE} {h0 : HS} {a0 : Nat} (S : CallFix p m c cX2_all 3 s args lw_all RX2) (hr : meth.sig.returnType = some (.object "FourOnOne$House")) (hlk : meth.locks = false) (hnm : meth.name = "all") (hEx : ∀ x ∈ c.exceptionTable.toList, False) (hG : GK A D ac K s) (hRM : RM K s (rmC 719 33797 K h0)) {x : HS × (Nat ⊕ Option Nat)} {k26 : HS → Option (HS × (Nat ⊕ Option Nat))} (hk26 : ∀ h, k26 h = some x → cGo p l e (rmC 719 33797 K h0) s m args below meth c A D ac K (vy_MQ below (tQq A D ac K x) (tX A D ac K x) args s (K.2.2.1 - h0.2.1) (K.2.2.2 - h0.2.2) A) 3 26 [(0, va_rf (some a0))] [] h) : ∀ (h : HS) (t1 : Int32), fX2_all_52 K a0 k26 h t1 = some x → cGo p l e (rmC 719 33797 K h0) s m args below meth c A D ac K (vy_MQ below (tQq A D ac K x) (tX A D ac K x) args s (K.2.2.1 - h0.2.1) (K.2.2.2 - h0.2.2) A) 3 52 [(0, va_rf (some a0))] [.int t1, va_rf (some a0)] h := by
  obtain ⟨hx, hb, hml, hown, hts⟩ := id S
  intro h t1 z H locs hH hS ls hl
  unfold fX2_all_52 at z
  refine c_aload_n hx hb dX2_all_52 rfl (lv_at hl 0 rfl) ?_
  replace z := ob z
  obtain ⟨v1, zv1, z⟩ := z
  obtain ⟨fsv1, yv1, zv1⟩ := gI_e zv1
  refine c_get S hG hH (ci := 2) (k := 2) rfl in_X2 (Nat.le_of_ble_eq_true rfl) q384 (fun _ y => y) yv1 zv1 dX2_all_53 ?_
  replace z := ob z
  obtain ⟨b2, zb2, z⟩ := z
  obtain ⟨yb2, zb2⟩ := rcv_e zb2
  replace z := ob z
  obtain ⟨x3, zx3, z⟩ := z
  refine t_callv hH hS hRM (fun _ _ f1 f2 => vy_runV (b := b2) (As := [.int t1, .int v1]) (rest := []) S (metX2_most zx3) (cwV 2 hts (lw_V q587 q589 qs6 q172 q590) rfl rfl rfl (by decide +kernel) ⟨(Nat.le_of_ble_eq_true rfl), (Nat.le_of_ble_eq_true rfl)⟩) (c_preV hG hH hS (ci := 2) rfl zb2) rfl rfl hl.1 (by rw [yb2]; rfl) (lv_room (Nat.le_of_ble_eq_true rfl)) dX2_all_56 ⟨f1, f2⟩) (fun q4 H locs ce e6 hH hS g1 g2 g3 => ?_) (fun v5 H locs e6 hH hS => ?_)
  · replace z := tb_l e6 z
    exact t_prop hEx hlk hH hS g1 g2 g3 z
  replace z := tb_r e6 z
  refine c_aload_n hx hb dX2_all_59 rfl (lv_at hl 0 rfl) ?_
  replace z := ob z
  obtain ⟨v7, zv7, z⟩ := z
  obtain ⟨fsv7, yv7, zv7⟩ := gR_e zv7
  refine c_get S hG hH (ci := 2) (k := 6) rfl in_X2 (Nat.le_of_ble_eq_true rfl) q388 (fun _ y => y) yv7 zv7 dX2_all_60 ?_
  refine lv_dup hx hb dX2_all_63 (ct_r _) ?_
  replace z := ob z
  obtain ⟨v8, zv8, z⟩ := z
  obtain ⟨fsv8, yv8, zv8⟩ := gI_e zv8
  refine c_getN S hG hH (ci := 1) (k := 0) rfl in_X1 (Nat.le_of_ble_eq_true rfl) q250 (fun _ y => y) yv8 zv8 dX2_all_64 ?_
  refine lv_iconst (v := (1 : Int32)) hx hb dX2_all_67 (by decide) ?_
  refine lv_iadd hx hb dX2_all_68 ?_
  replace z := ob z
  obtain ⟨h9, zh9, z⟩ := z
  refine c_putN S hG hH hS (ci := 1) (k := 0) rfl in_X1 tyX1 tyX1_ok nmX1 (Nat.le_of_ble_eq_true rfl) q250 (fun _ y => y) rfl (ty := .int) rfl rfl rfl zh9 dX2_all_69 (fun H locs hH hS => ?_)
  refine c_aload_n hx hb dX2_all_72 rfl (lv_at hl 0 rfl) ?_
  replace z := ob z
  obtain ⟨b10, zb10, z⟩ := z
  obtain ⟨yb10, zb10⟩ := rcv_e zb10
  replace z := ob z
  obtain ⟨x11, zx11, z⟩ := z
  refine t_callq hH hS hRM (fun _ _ f1 f2 => vy_runV (b := b10) (As := []) (rest := []) S (metX2_word zx11) (cwV 0 hts (lw_V q595 q597 qs8 q172 q598) rfl rfl rfl (by decide +kernel) ⟨(Nat.le_of_ble_eq_true rfl), (Nat.le_of_ble_eq_true rfl)⟩) (c_preV hG hH hS (ci := 2) rfl zb10) rfl rfl hl.1 (by rw [yb10]; rfl) (lv_room (Nat.le_of_ble_eq_true rfl)) dX2_all_73 ⟨f1, f2⟩) (fun q12 H locs ce e14 hH hS g1 g2 g3 => ?_) (fun v13 H locs e14 hH hS => ?_)
  · replace z := tb_l e14 z
    exact t_prop hEx hlk hH hS g1 g2 g3 z
  replace z := tb_r e14 z
  refine c_astore_n (lv' := [(2, va_rf v13), (0, va_rf (some a0))]) hx hb dX2_all_76 rfl hl (by decide) rfl (fun ls hl => ?_)
  refine c_aload_n hx hb dX2_all_77 rfl (lv_at hl 1 rfl) ?_
  refine c_aload_n hx hb dX2_all_78 rfl (lv_at hl 0 rfl) ?_
  refine c_aload_n hx hb dX2_all_79 rfl (lv_at hl 1 rfl) ?_
  replace z := ob z
  obtain ⟨v15, zv15, z⟩ := z
  obtain ⟨fsv15, yv15, zv15⟩ := gI_e zv15
  refine c_get S hG hH (ci := 2) (k := 3) rfl in_X2 (Nat.le_of_ble_eq_true rfl) q385 (fun _ y => y) yv15 zv15 dX2_all_80 ?_
  replace z := ob z
  obtain ⟨b16, zb16, z⟩ := z
  obtain ⟨yb16, zb16⟩ := rcv_e zb16
  replace z := ob z
  obtain ⟨x17, zx17, z⟩ := z
  refine t_calli hH hS hRM (fun _ _ f1 f2 => vy_runV (b := b16) (As := [va_rf v13, .int v15]) (rest := []) S (metX2_told zx17) (cwV 2 hts (lw_V q687 q689 qs10 q172 q690) rfl rfl rfl (by decide +kernel) ⟨(Nat.le_of_ble_eq_true rfl), (Nat.le_of_ble_eq_true rfl)⟩) (c_preV hG hH hS (ci := 2) rfl zb16) rfl rfl hl.1 (by rw [yb16]; rfl) (lv_room (Nat.le_of_ble_eq_true rfl)) dX2_all_83 ⟨f1, f2⟩) (fun q18 H locs ce e20 hH hS g1 g2 g3 => ?_) (fun v19 H locs e20 hH hS => ?_)
  · replace z := tb_l e20 z
    exact t_prop hEx hlk hH hS g1 g2 g3 z
  replace z := tb_r e20 z
  refine lv_if_ne (tgt := 98) hx hb dX2_all_86 (by decide) (fun c21 => ?_) (fun c21 => ?_)
  · replace z := ie c21 z
    exact wX2_all_98 S hr hlk hnm hEx hG hRM hk26 x17.1 z _ _ hH hS _ (lv_sub hl [1] rfl)
  replace z := it c21 z
  refine c_aload_n hx hb dX2_all_89 rfl (lv_at hl 1 rfl) ?_
  refine c_aload_n hx hb dX2_all_90 rfl (lv_at hl 0 rfl) ?_
  refine c_aload_n hx hb dX2_all_91 rfl (lv_at hl 1 rfl) ?_
  replace z := ob z
  obtain ⟨v22, zv22, z⟩ := z
  obtain ⟨fsv22, yv22, zv22⟩ := gI_e zv22
  refine c_get S hG hH (ci := 2) (k := 3) rfl in_X2 (Nat.le_of_ble_eq_true rfl) q385 (fun _ y => y) yv22 zv22 dX2_all_92 ?_
  replace z := ob z
  obtain ⟨b23, zb23, z⟩ := z
  obtain ⟨yb23, zb23⟩ := rcv_e zb23
  replace z := ob z
  obtain ⟨x24, zx24, z⟩ := z
  refine t_callv hH hS hRM (fun _ _ f1 f2 => vy_runV (b := b23) (As := [va_rf v13, .int v22]) (rest := []) S (metX2_more zx24) (cwV 2 hts (lw_V q977 q979 qs21 q172 q980) rfl rfl rfl (by decide +kernel) ⟨(Nat.le_of_ble_eq_true rfl), (Nat.le_of_ble_eq_true rfl)⟩) (c_preV hG hH hS (ci := 2) rfl zb23) rfl rfl hl.1 (by rw [yb23]; rfl) (lv_room (Nat.le_of_ble_eq_true rfl)) dX2_all_95 ⟨f1, f2⟩) (fun q25 H locs ce e27 hH hS g1 g2 g3 => ?_) (fun v26 H locs e27 hH hS => ?_)
  · replace z := tb_l e27 z
    exact t_prop hEx hlk hH hS g1 g2 g3 z
  replace z := tb_r e27 z
  exact wX2_all_98 S hr hlk hnm hEx hG hRM hk26 x24.1 z _ _ hH hS _ (lv_sub hl [1] rfl)
set_option maxHeartbeats 4000000 in
theorem wX2_all_26 {p : Program} {l : Launch} {e : Env} {s : State} {m : MethodId} {args : Array Value} {below : List Frame} {meth : Method} {c : Code} {A : Nat → Prop} {D : va_G} {ac : Nat → ClassId} {K : KE} {h0 : HS} {a0 : Nat} (S : CallFix p m c cX2_all 3 s args lw_all RX2) (hr : meth.sig.returnType = some (.object "FourOnOne$House")) (hlk : meth.locks = false) (hnm : meth.name = "all") (hEx : ∀ x ∈ c.exceptionTable.toList, False) (hG : GK A D ac K s) (hRM : RM K s (rmC 719 33797 K h0)) {x : HS × (Nat ⊕ Option Nat)} : ∀ (n : Nat) (h : HS), fX2_all_26 K a0 n h = some x → cGo p l e (rmC 719 33797 K h0) s m args below meth c A D ac K (vy_MQ below (tQq A D ac K x) (tX A D ac K x) args s (K.2.2.1 - h0.2.1) (K.2.2.2 - h0.2.2) A) 3 26 [(0, va_rf (some a0))] [] h := by
  obtain ⟨hx, hb, hml, hown, hts⟩ := id S
  intro n
  induction n with
  | zero => intro h z; cases z
  | succ n ih =>
    intro h z H locs hH hS ls hl
    rw [fX2_all_26] at z
    refine c_aload_n hx hb dX2_all_26 rfl (lv_at hl 0 rfl) ?_
    replace z := ob z
    obtain ⟨b1, zb1, z⟩ := z
    obtain ⟨yb1, zb1⟩ := rcv_e zb1
    replace z := ob z
    obtain ⟨x2, zx2, z⟩ := z
    refine c_calli hH hS hRM (fun _ _ f1 f2 => va_runV (b := b1) (As := []) (rest := []) S (metX2_here zx2) (cwV 0 hts (lw_V q579 q581 qs4 q172 q582) rfl rfl rfl (by decide +kernel) ⟨(Nat.le_of_ble_eq_true rfl), (Nat.le_of_ble_eq_true rfl)⟩) (c_preV hG hH hS (ci := 2) rfl zb1) rfl rfl hl.1 (by rw [yb1]; rfl) (lv_room (Nat.le_of_ble_eq_true rfl)) dX2_all_27 ⟨f1, f2⟩) (fun H locs hH hS => ?_)
    refine lv_iconst (v := (-1 : Int32)) hx hb dX2_all_30 (by decide) ?_
    refine lv_icmp_eq (tgt := 107) hx hb dX2_all_31 (by decide) (fun c3 => ?_) (fun c3 => ?_)
    · replace z := it c3 z
      refine c_aload_n hx hb dX2_all_107 rfl (lv_at hl 0 rfl) ?_
      replace z := ob z
      obtain ⟨v4, zv4, z⟩ := z
      obtain ⟨fsv4, yv4, zv4⟩ := gR_e zv4
      refine c_get S hG hH (ci := 2) (k := 6) rfl in_X2 (Nat.le_of_ble_eq_true rfl) q388 (fun _ y => y) yv4 zv4 dX2_all_108 ?_
      exact t_aret S hr (Or.inl ⟨_, rfl⟩) hlk hH hS z dX2_all_111
    replace z := ie c3 z
    refine c_aload_n hx hb dX2_all_34 rfl (lv_at hl 0 rfl) ?_
    refine c_aload_n hx hb dX2_all_35 rfl (lv_at hl 0 rfl) ?_
    replace z := ob z
    obtain ⟨v5, zv5, z⟩ := z
    obtain ⟨fsv5, yv5, zv5⟩ := gR_e zv5
    refine c_get S hG hH (ci := 2) (k := 6) rfl in_X2 (Nat.le_of_ble_eq_true rfl) q388 (fun _ y => y) yv5 zv5 dX2_all_36 ?_
    replace z := ob z
    obtain ⟨v6, zv6, z⟩ := z
    obtain ⟨fsv6, yv6, zv6⟩ := gI_e zv6
    refine c_getN S hG hH (ci := 1) (k := 0) rfl in_X1 (Nat.le_of_ble_eq_true rfl) q250 (fun _ y => y) yv6 zv6 dX2_all_39 ?_
    refine lv_bipush (v := (80 : Int32)) hx hb dX2_all_42 (by decide) ?_
    refine lv_icmp_ne (tgt := 51) hx hb dX2_all_44 (by decide) (fun c7 => ?_) (fun c7 => ?_)
    · replace z := ie c7 z
      refine lv_iconst (v := (0 : Int32)) hx hb dX2_all_51 (by decide) ?_
      exact wX2_all_52 S hr hlk hnm hEx hG hRM ih x2.1 (0 : Int32) z _ _ hH hS _ (lv_sub hl [0] rfl)
    replace z := it c7 z
    refine lv_iconst (v := (1 : Int32)) hx hb dX2_all_47 (by decide) ?_
    refine lv_goto (tgt := 52) hx hb dX2_all_48 (by decide) ?_
    exact wX2_all_52 S hr hlk hnm hEx hG hRM ih x2.1 (1 : Int32) z _ _ hH hS _ (lv_sub hl [0] rfl)
set_option maxHeartbeats 4000000 in
theorem metX2_all {l : Launch} {A : Nat → Prop} {D : va_G} {ac : Nat → ClassId} {K : KE} {h : HS} {a0 : Nat} {a1 : Int32} {x : HS × (Nat ⊕ Option Nat)} (z : fX2_all K h a0 a1 = some x) : vy_Met l yX2_all (ws_ yX2_all cX2_all 3 (some (.object "FourOnOne$House"))) (rmC 719 33797 K h) (cP A D ac K h [va_rf (some a0), .int a1]) (tQq A D ac K x) (tX A D ac K x) (K.2.2.1 - h.2.1) (K.2.2.2 - h.2.2) A := by
  refine t_entry (by decide) (Nat.le_of_ble_eq_true rfl) ?_
  intro p e s m below meth c S hr hlk hnm hEx hG hRM hH hS ls hl
  replace hl : lv_has ls 3 [(0, va_rf (some a0)), (1, .int a1)] := hl
  replace hnm : meth.name = "all" := hnm
  replace S : CallFix p m c cX2_all 3 s _ lw_all RX2 := S
  obtain ⟨hx, hb, hml, hown, hts⟩ := id S
  unfold fX2_all at z
  refine c_aload_n hx hb dX2_all_0 rfl (lv_at hl 0 rfl) ?_
  replace z := ob z
  obtain ⟨h1, zh1, z⟩ := z
  refine c_new S hG hH hS hRM (ci := 1) rfl in_X1 tyX1 tyX1_ok q577 q216 q168 df1_ok zh1 dX2_all_1 (fun H locs hH hS => ?_)
  refine lv_dup hx hb dX2_all_4 (ct_r _) ?_
  replace z := ob z
  obtain ⟨x2, zx2, z⟩ := z
  refine c_callv hH hS hRM (fun _ _ f1 f2 => va_runIN (b := h.2.1) (As := []) (rest := [va_rf (some h.2.1), va_rf (some a0)]) S (metX1_init zx2) ⟨va_cnB 0 hts (lw_meth q219) rfl rfl rfl (hG.2.1.2.1 _ _ _ _ q578) (hts _ q168) (by decide +kernel) ⟨(Nat.le_of_ble_eq_true rfl), (Nat.le_of_ble_eq_true rfl)⟩, rfl, hts _ q218⟩ (c_pre hG hH hS) rfl rfl hl.1 rfl (lv_room (by simp [ct_r, ct_i, ct_l])) dX2_all_5 ⟨f1, f2⟩) (fun H locs hH hS => ?_)
  replace z := ob z
  obtain ⟨h3, zh3, z⟩ := z
  refine c_put S hG hH hS (ci := 2) (k := 6) rfl in_X2 tyX2 tyX2_ok nmX2 (Nat.le_of_ble_eq_true rfl) q388 (fun _ y => y) rfl (ty := .object "FourOnOne$House") rfl (nr_o _) (ft_o _) zh3 dX2_all_8 (fun H locs hH hS => ?_)
  refine c_aload_n hx hb dX2_all_11 rfl (lv_at hl 0 rfl) ?_
  refine lv_iload_n hx hb dX2_all_12 rfl (lv_at hl 1 rfl) ?_
  replace z := ob z
  obtain ⟨h4, zh4, z⟩ := z
  refine c_put S hG hH hS (ci := 2) (k := 1) rfl in_X2 tyX2 tyX2_ok nmX2 (Nat.le_of_ble_eq_true rfl) q383 (fun _ y => y) rfl (ty := .int) rfl rfl rfl zh4 dX2_all_13 (fun H locs hH hS => ?_)
  refine c_aload_n hx hb dX2_all_16 rfl (lv_at hl 0 rfl) ?_
  refine lv_iconst (v := (0 : Int32)) hx hb dX2_all_17 (by decide) ?_
  replace z := ob z
  obtain ⟨h5, zh5, z⟩ := z
  refine c_put S hG hH hS (ci := 2) (k := 2) rfl in_X2 tyX2 tyX2_ok nmX2 (Nat.le_of_ble_eq_true rfl) q384 (fun _ y => y) rfl (ty := .int) rfl rfl rfl zh5 dX2_all_18 (fun H locs hH hS => ?_)
  refine c_aload_n hx hb dX2_all_21 rfl (lv_at hl 0 rfl) ?_
  refine lv_iconst (v := (0 : Int32)) hx hb dX2_all_22 (by decide) ?_
  replace z := ob z
  obtain ⟨h6, zh6, z⟩ := z
  refine c_put S hG hH hS (ci := 2) (k := 4) rfl in_X2 tyX2 tyX2_ok nmX2 (Nat.le_of_ble_eq_true rfl) q386 (fun _ y => y) rfl (ty := .int) rfl rfl rfl zh6 dX2_all_23 (fun H locs hH hS => ?_)
  exact wX2_all_26 S hr hlk hnm hEx hG hRM FU h6 z _ _ hH hS _ (lv_sub hl [0] rfl)
/-! FourOnOne.house()I -/
def fX0_house_28 (K : KE) (a0 : Nat) (h : HS) (t0 : Option Nat) : Option (HS × Int32) :=
  (gI K h t0 3 6).bind fun v1 =>
  (pV h (some a0) 0 3 (.int v1)).bind fun h2 =>
  (gI K h2 t0 3 7).bind fun v3 =>
  (pV h2 (some a0) 0 4 (.int v3)).bind fun h4 =>
  (rcv K h4 (some a0) 0).bind fun b5 =>
  (fX0_refuses K h4 b5 (1 : Int32)).bind fun x6 =>
  some (x6.1, x6.2)
def fX0_house (K : KE) (h : HS) (a0 : Nat) : Option (HS × Int32) :=
  (pV h (some a0) 0 3 (.int (0 : Int32))).bind fun h1 =>
  (pV h1 (some a0) 0 4 (.int (-1 : Int32))).bind fun h2 =>
  (gR K h2 (some a0) 0 5).bind fun v3 =>
  (rcv K h2 (some a0) 0).bind fun b4 =>
  (fX0_taken K h2 b4).bind fun x5 =>
  (rcv K x5.1 v3 2).bind fun b6 =>
  (fX2_all K x5.1 b6 x5.2).bind fun x7 =>
  tb x7 (fun q8 => fX0_house_28 K a0 x7.1 (some q8)) fun v9 =>
  (pV x7.1 (some a0) 0 0 (va_rf v9)).bind fun h11 =>
  (gR K h11 (some a0) 0 9).bind fun v12 =>
  (rcv K h11 v12 5).bind fun b13 =>
  (fX5_begins K h11 b13).bind fun x14 =>
  (pV x14 (some a0) 0 17 (.int (0 : Int32))).bind fun h15 =>
  (pV h15 (some a0) 0 15 (.int (0 : Int32))).bind fun h16 =>
  (gR K h16 (some a0) 0 0).bind fun v17 =>
  (gI K h16 v17 1 0).bind fun v18 =>
  some (h16, v18)
set_option maxHeartbeats 4000000 in
theorem wX0_house_28 {p : Program} {l : Launch} {e : Env} {s : State} {m : MethodId} {args : Array Value} {below : List Frame} {meth : Method} {c : Code} {A : Nat → Prop} {D : va_G} {ac : Nat → ClassId} {K : KE} {h0 : HS} {a0 : Nat} (S : CallFix p m c cX0_house 2 s args lw_all RX0) (hr : meth.sig.returnType = some .int) (hlk : meth.locks = false) (hnm : meth.name = "house") (hTb : c.exceptionTable.toList = [⟨10, 25, 28, 126⟩]) (hG : GK A D ac K s) (hRM : RM K s (rmC 720 33819 K h0)) {x : HS × Int32} : ∀ (h : HS) (t0 : Option Nat), fX0_house_28 K a0 h t0 = some x → cGo p l e (rmC 720 33819 K h0) s m args below meth c A D ac K (MQ below (cQi A D ac K x) args s (K.2.2.1 - h0.2.1) (K.2.2.2 - h0.2.2) A) 2 28 [(0, va_rf (some a0))] [va_rf t0] h := by
  obtain ⟨hx, hb, hml, hown, hts⟩ := id S
  intro h t0 z H locs hH hS ls hl
  unfold fX0_house_28 at z
  refine c_astore_n (lv' := [(1, va_rf t0), (0, va_rf (some a0))]) hx hb dX0_house_28 rfl hl (by decide) rfl (fun ls hl => ?_)
  refine c_aload_n hx hb dX0_house_29 rfl (lv_at hl 1 rfl) ?_
  refine c_aload_n hx hb dX0_house_30 rfl (lv_at hl 0 rfl) ?_
  replace z := ob z
  obtain ⟨v1, zv1, z⟩ := z
  obtain ⟨fsv1, yv1, zv1⟩ := gI_e zv1
  refine c_getN S hG hH (ci := 3) (k := 6) rfl in_X3 (Nat.le_of_ble_eq_true rfl) q361 (fun _ y => y) yv1 zv1 dX0_house_31 ?_
  replace z := ob z
  obtain ⟨h2, zh2, z⟩ := z
  refine c_put S hG hH hS (ci := 0) (k := 3) rfl in_X0 tyX0 tyX0_ok nmX0 (Nat.le_of_ble_eq_true rfl) q482 (fun _ y => y) rfl (ty := .int) rfl rfl rfl zh2 dX0_house_34 (fun H locs hH hS => ?_)
  refine c_aload_n hx hb dX0_house_37 rfl (lv_at hl 1 rfl) ?_
  refine c_aload_n hx hb dX0_house_38 rfl (lv_at hl 0 rfl) ?_
  replace z := ob z
  obtain ⟨v3, zv3, z⟩ := z
  obtain ⟨fsv3, yv3, zv3⟩ := gI_e zv3
  refine c_getN S hG hH (ci := 3) (k := 7) rfl in_X3 (Nat.le_of_ble_eq_true rfl) q363 (fun _ y => y) yv3 zv3 dX0_house_39 ?_
  replace z := ob z
  obtain ⟨h4, zh4, z⟩ := z
  refine c_put S hG hH hS (ci := 0) (k := 4) rfl in_X0 tyX0 tyX0_ok nmX0 (Nat.le_of_ble_eq_true rfl) q483 (fun _ y => y) rfl (ty := .int) rfl rfl rfl zh4 dX0_house_42 (fun H locs hH hS => ?_)
  refine c_aload_n hx hb dX0_house_45 rfl (lv_at hl 1 rfl) ?_
  refine lv_iconst (v := (1 : Int32)) hx hb dX0_house_46 (by decide) ?_
  replace z := ob z
  obtain ⟨b5, zb5, z⟩ := z
  obtain ⟨yb5, zb5⟩ := rcv_e zb5
  replace z := ob z
  obtain ⟨x6, zx6, z⟩ := z
  refine c_calli hH hS hRM (fun _ _ f1 f2 => va_runV (b := b5) (As := [.int (1 : Int32)]) (rest := []) S (metX0_refuses zx6) (cwV 1 hts (lw_V q552 q554 qs1 q167 q555) rfl rfl rfl (by decide +kernel) ⟨(Nat.le_of_ble_eq_true rfl), (Nat.le_of_ble_eq_true rfl)⟩) (c_preV hG hH hS (ci := 0) rfl zb5) rfl rfl hl.1 (by rw [yb5]; rfl) (lv_room (Nat.le_of_ble_eq_true rfl)) dX0_house_47 ⟨f1, f2⟩) (fun H locs hH hS => ?_)
  exact c_iret S hr hlk rfl hH hS z dX0_house_50
set_option maxHeartbeats 4000000 in
theorem metX0_house {l : Launch} {A : Nat → Prop} {D : va_G} {ac : Nat → ClassId} {K : KE} {h : HS} {a0 : Nat} {x : HS × Int32} (z : fX0_house K h a0 = some x) : Met l yX0_house (wsW_ yX0_house cX0_house 2 (some .int) [(10, 25, 28, 126)]) (rmC 720 33819 K h) (cP A D ac K h [va_rf (some a0)]) (cQi A D ac K x) (K.2.2.1 - h.2.1) (K.2.2.2 - h.2.2) A := by
  refine c_entryH (by decide) (Nat.le_of_ble_eq_true rfl) ?_
  intro p e s m below meth c S hr hlk hnm hTb hG hRM hH hS ls hl
  replace hl : lv_has ls 2 [(0, va_rf (some a0))] := hl
  replace hnm : meth.name = "house" := hnm
  replace S : CallFix p m c cX0_house 2 s _ lw_all RX0 := S
  obtain ⟨hx, hb, hml, hown, hts⟩ := id S
  unfold fX0_house at z
  refine c_aload_n hx hb dX0_house_0 rfl (lv_at hl 0 rfl) ?_
  refine lv_iconst (v := (0 : Int32)) hx hb dX0_house_1 (by decide) ?_
  replace z := ob z
  obtain ⟨h1, zh1, z⟩ := z
  refine c_put S hG hH hS (ci := 0) (k := 3) rfl in_X0 tyX0 tyX0_ok nmX0 (Nat.le_of_ble_eq_true rfl) q482 (fun _ y => y) rfl (ty := .int) rfl rfl rfl zh1 dX0_house_2 (fun H locs hH hS => ?_)
  refine c_aload_n hx hb dX0_house_5 rfl (lv_at hl 0 rfl) ?_
  refine lv_iconst (v := (-1 : Int32)) hx hb dX0_house_6 (by decide) ?_
  replace z := ob z
  obtain ⟨h2, zh2, z⟩ := z
  refine c_put S hG hH hS (ci := 0) (k := 4) rfl in_X0 tyX0 tyX0_ok nmX0 (Nat.le_of_ble_eq_true rfl) q483 (fun _ y => y) rfl (ty := .int) rfl rfl rfl zh2 dX0_house_7 (fun H locs hH hS => ?_)
  refine c_aload_n hx hb dX0_house_10 rfl (lv_at hl 0 rfl) ?_
  refine c_aload_n hx hb dX0_house_11 rfl (lv_at hl 0 rfl) ?_
  replace z := ob z
  obtain ⟨v3, zv3, z⟩ := z
  obtain ⟨fsv3, yv3, zv3⟩ := gR_e zv3
  refine c_get S hG hH (ci := 0) (k := 5) rfl in_X0 (Nat.le_of_ble_eq_true rfl) q484 (fun _ y => y) yv3 zv3 dX0_house_12 ?_
  refine c_aload_n hx hb dX0_house_15 rfl (lv_at hl 0 rfl) ?_
  replace z := ob z
  obtain ⟨b4, zb4, z⟩ := z
  obtain ⟨yb4, zb4⟩ := rcv_e zb4
  replace z := ob z
  obtain ⟨x5, zx5, z⟩ := z
  refine c_calli hH hS hRM (fun _ _ f1 f2 => va_runV (b := b4) (As := []) (rest := [va_rf v3, va_rf (some a0)]) S (metX0_taken zx5) (cwV 0 hts (lw_V q569 q571 qs3 q167 q572) rfl rfl rfl (by decide +kernel) ⟨(Nat.le_of_ble_eq_true rfl), (Nat.le_of_ble_eq_true rfl)⟩) (c_preV hG hH hS (ci := 0) rfl zb4) rfl rfl hl.1 (by rw [yb4]; rfl) (lv_room (by simp [ct_r, ct_i, ct_l])) dX0_house_16 ⟨f1, f2⟩) (fun H locs hH hS => ?_)
  replace z := ob z
  obtain ⟨b6, zb6, z⟩ := z
  obtain ⟨yb6, zb6⟩ := rcv_e zb6
  replace z := ob z
  obtain ⟨x7, zx7, z⟩ := z
  refine t_callq hH hS hRM (fun _ _ f1 f2 => vy_runV (b := b6) (As := [.int x5.2]) (rest := [va_rf (some a0)]) S (metX2_all zx7) (cwV 1 hts (lw_V q573 q574 q575 q172 q576) rfl rfl rfl (by decide +kernel) ⟨(Nat.le_of_ble_eq_true rfl), (Nat.le_of_ble_eq_true rfl)⟩) (c_preV hG hH hS (ci := 2) rfl zb6) rfl rfl hl.1 (by rw [yb6]; rfl) (lv_room (Nat.le_of_ble_eq_true rfl)) dX0_house_19 ⟨f1, f2⟩) (fun q8 H locs ce e10 hH hS g1 g2 g3 => ?_) (fun v9 H locs e10 hH hS => ?_)
  · replace z := tb_l e10 z
    refine t_catch S (x := ⟨10, 25, 28, 126⟩) hTb (by decide) (by decide) q568 (hG.2.1.2.2.2.1 _ _ q311) g1 g2 g3 ?_
    exact wX0_house_28 S hr hlk hnm hTb hG hRM x7.1 (some q8) z _ _ hH hS _ (lv_sub hl [0] rfl)
  replace z := tb_r e10 z
  replace z := ob z
  obtain ⟨h11, zh11, z⟩ := z
  refine c_put S hG hH hS (ci := 0) (k := 0) rfl in_X0 tyX0 tyX0_ok nmX0 (Nat.le_of_ble_eq_true rfl) q478 (fun _ y => y) rfl (ty := .object "FourOnOne$House") rfl (nr_o _) (ft_o _) zh11 dX0_house_22 (fun H locs hH hS => ?_)
  refine lv_goto (tgt := 51) hx hb dX0_house_25 (by decide) ?_
  refine c_aload_n hx hb dX0_house_51 rfl (lv_at hl 0 rfl) ?_
  replace z := ob z
  obtain ⟨v12, zv12, z⟩ := z
  obtain ⟨fsv12, yv12, zv12⟩ := gR_e zv12
  refine c_get S hG hH (ci := 0) (k := 9) rfl in_X0 (Nat.le_of_ble_eq_true rfl) q489 (fun _ y => y) yv12 zv12 dX0_house_52 ?_
  replace z := ob z
  obtain ⟨b13, zb13, z⟩ := z
  obtain ⟨yb13, zb13⟩ := rcv_e zb13
  replace z := ob z
  obtain ⟨x14, zx14, z⟩ := z
  refine c_callv hH hS hRM (fun _ _ f1 f2 => va_runV (b := b13) (As := []) (rest := []) S (metX5_begins zx14) (cwV 0 hts (lw_V q1256 q1257 q1258 q178 q1259) rfl rfl rfl (by decide +kernel) ⟨(Nat.le_of_ble_eq_true rfl), (Nat.le_of_ble_eq_true rfl)⟩) (c_preV hG hH hS (ci := 5) rfl zb13) rfl rfl hl.1 (by rw [yb13]; rfl) (lv_room (Nat.le_of_ble_eq_true rfl)) dX0_house_55 ⟨f1, f2⟩) (fun H locs hH hS => ?_)
  refine c_aload_n hx hb dX0_house_58 rfl (lv_at hl 0 rfl) ?_
  refine lv_iconst (v := (0 : Int32)) hx hb dX0_house_59 (by decide) ?_
  replace z := ob z
  obtain ⟨h15, zh15, z⟩ := z
  refine c_put S hG hH hS (ci := 0) (k := 17) rfl in_X0 tyX0 tyX0_ok nmX0 (Nat.le_of_ble_eq_true rfl) q497 (fun _ y => y) rfl (ty := .int) rfl rfl rfl zh15 dX0_house_60 (fun H locs hH hS => ?_)
  refine c_aload_n hx hb dX0_house_63 rfl (lv_at hl 0 rfl) ?_
  refine lv_iconst (v := (0 : Int32)) hx hb dX0_house_64 (by decide) ?_
  replace z := ob z
  obtain ⟨h16, zh16, z⟩ := z
  refine c_put S hG hH hS (ci := 0) (k := 15) rfl in_X0 tyX0 tyX0_ok nmX0 (Nat.le_of_ble_eq_true rfl) q495 (fun _ y => y) rfl (ty := .int) rfl rfl rfl zh16 dX0_house_65 (fun H locs hH hS => ?_)
  refine c_aload_n hx hb dX0_house_68 rfl (lv_at hl 0 rfl) ?_
  replace z := ob z
  obtain ⟨v17, zv17, z⟩ := z
  obtain ⟨fsv17, yv17, zv17⟩ := gR_e zv17
  refine c_get S hG hH (ci := 0) (k := 0) rfl in_X0 (Nat.le_of_ble_eq_true rfl) q478 (fun _ y => y) yv17 zv17 dX0_house_69 ?_
  replace z := ob z
  obtain ⟨v18, zv18, z⟩ := z
  obtain ⟨fsv18, yv18, zv18⟩ := gI_e zv18
  refine c_getN S hG hH (ci := 1) (k := 0) rfl in_X1 (Nat.le_of_ble_eq_true rfl) q249 (fun _ y => y) yv18 zv18 dX0_house_72 ?_
  exact c_iret S hr hlk rfl hH hS z dX0_house_75
/-! FourOnOne$Reader.question(I)LFourOnOne$Question; -/
def fX2_question_82 (K : KE) (a0 : Nat) (h : HS) (t0 : Option Nat) : Option (HS × (Nat ⊕ Option Nat)) :=
  (rcv K h (some a0) 2).bind fun b1 =>
  (fX2_here K h b1).bind fun x2 =>
  if x2.2 = (-1 : Int32) then
    some (x2.1, .inr t0)
  else
  (gI K x2.1 (some a0) 2 2).bind fun v4 =>
  (rcv K x2.1 (some a0) 2).bind fun b5 =>
  (fX2_wrong K x2.1 b5 (1 : Int32) v4).bind fun x6 =>
  (rcv K x6.1 x6.2 3).bind fun q7 =>
  some (x6.1, .inl q7)
def fX2_question (K : KE) (h : HS) (a0 : Nat) (a1 : Int32) : Option (HS × (Nat ⊕ Option Nat)) :=
  (pV h (some a0) 2 1 (.int a1)).bind fun h1 =>
  (pV h1 (some a0) 2 2 (.int (0 : Int32))).bind fun h2 =>
  (pV h2 (some a0) 2 4 (.int (0 : Int32))).bind fun h3 =>
  (pV h3 (some a0) 2 5 (.int (249 : Int32))).bind fun h4 =>
  (rcv K h4 (some a0) 2).bind fun b5 =>
  (fX2_word K h4 b5).bind fun x6 =>
  tb x6 (fun q7 => some (x6.1, .inl q7)) fun v8 =>
  (fX0_find K x6.1 v8 (K.2.1 2)).bind fun x10 =>
  if x10 = (-1 : Int32) then
    (gI K x6.1 (some a0) 2 3).bind fun v27 =>
    (rcv K x6.1 (some a0) 2).bind fun b28 =>
    (fX2_wrong K x6.1 b28 (1 : Int32) v27).bind fun x29 =>
    (rcv K x29.1 x29.2 3).bind fun q30 =>
    some (x29.1, .inl q30)
  else
  if (3 : Int32) ≤ x10 then
    (alc K x6.1 (.inr (18, df18)) 5).bind fun h13 =>
    (rcv K h13 (some a0) 2).bind fun b14 =>
    (fX2_sum K h13 (rsD K 64) b14).bind fun x15 =>
    tb x15 (fun q16 => some (x15.1, .inl q16)) fun v17 =>
    (fX21_init K x15.1 x6.1.2.1 x10 none v17).bind fun x19 =>
    fX2_question_82 K a0 x19 (some x6.1.2.1)
  else
  (alc K x6.1 (.inr (18, df18)) 5).bind fun h20 =>
  (rcv K h20 (some a0) 2).bind fun b21 =>
  (fX2_test K h20 (rsD K 64) b21).bind fun x22 =>
  tb x22 (fun q23 => some (x22.1, .inl q23)) fun v24 =>
  (fX21_init K x22.1 x6.1.2.1 x10 v24 none).bind fun x26 =>
  fX2_question_82 K a0 x26 (some x6.1.2.1)
set_option maxHeartbeats 4000000 in
theorem wX2_question_82 {p : Program} {l : Launch} {e : Env} {s : State} {m : MethodId} {args : Array Value} {below : List Frame} {meth : Method} {c : Code} {A : Nat → Prop} {D : va_G} {ac : Nat → ClassId} {K : KE} {h0 : HS} {a0 : Nat} (S : CallFix p m c cX2_question 4 s args lw_all RX2) (hr : meth.sig.returnType = some (.object "FourOnOne$Question")) (hlk : meth.locks = false) (hnm : meth.name = "question") (hEx : ∀ x ∈ c.exceptionTable.toList, False) (hG : GK A D ac K s) (hRM : RM K s (rmC 718 33773 K h0)) {x : HS × (Nat ⊕ Option Nat)} : ∀ (h : HS) (t0 : Option Nat), fX2_question_82 K a0 h t0 = some x → cGo p l e (rmC 718 33773 K h0) s m args below meth c A D ac K (vy_MQ below (tQq A D ac K x) (tX A D ac K x) args s (K.2.2.1 - h0.2.1) (K.2.2.2 - h0.2.2) A) 4 82 [(0, va_rf (some a0))] [va_rf t0] h := by
  obtain ⟨hx, hb, hml, hown, hts⟩ := id S
  intro h t0 z H locs hH hS ls hl
  unfold fX2_question_82 at z
  refine c_astore_n (lv' := [(3, va_rf t0), (0, va_rf (some a0))]) hx hb dX2_question_82 rfl hl (by decide) rfl (fun ls hl => ?_)
  refine c_aload_n hx hb dX2_question_83 rfl (lv_at hl 1 rfl) ?_
  replace z := ob z
  obtain ⟨b1, zb1, z⟩ := z
  obtain ⟨yb1, zb1⟩ := rcv_e zb1
  replace z := ob z
  obtain ⟨x2, zx2, z⟩ := z
  refine c_calli hH hS hRM (fun _ _ f1 f2 => va_runV (b := b1) (As := []) (rest := []) S (metX2_here zx2) (cwV 0 hts (lw_V q579 q581 qs4 q172 q582) rfl rfl rfl (by decide +kernel) ⟨(Nat.le_of_ble_eq_true rfl), (Nat.le_of_ble_eq_true rfl)⟩) (c_preV hG hH hS (ci := 2) rfl zb1) rfl rfl hl.1 (by rw [yb1]; rfl) (lv_room (Nat.le_of_ble_eq_true rfl)) dX2_question_84 ⟨f1, f2⟩) (fun H locs hH hS => ?_)
  refine lv_iconst (v := (-1 : Int32)) hx hb dX2_question_87 (by decide) ?_
  refine lv_icmp_eq (tgt := 101) hx hb dX2_question_88 (by decide) (fun c3 => ?_) (fun c3 => ?_)
  · replace z := it c3 z
    refine c_aload_n hx hb dX2_question_101 rfl (lv_at hl 0 rfl) ?_
    exact t_aret S hr (Or.inl ⟨_, rfl⟩) hlk hH hS z dX2_question_102
  replace z := ie c3 z
  refine c_aload_n hx hb dX2_question_91 rfl (lv_at hl 1 rfl) ?_
  refine lv_iconst (v := (1 : Int32)) hx hb dX2_question_92 (by decide) ?_
  refine c_aload_n hx hb dX2_question_93 rfl (lv_at hl 1 rfl) ?_
  replace z := ob z
  obtain ⟨v4, zv4, z⟩ := z
  obtain ⟨fsv4, yv4, zv4⟩ := gI_e zv4
  refine c_get S hG hH (ci := 2) (k := 2) rfl in_X2 (Nat.le_of_ble_eq_true rfl) q384 (fun _ y => y) yv4 zv4 dX2_question_94 ?_
  replace z := ob z
  obtain ⟨b5, zb5, z⟩ := z
  obtain ⟨yb5, zb5⟩ := rcv_e zb5
  replace z := ob z
  obtain ⟨x6, zx6, z⟩ := z
  refine c_callq hH hS hRM (fun _ _ f1 f2 => va_runV (b := b5) (As := [.int (1 : Int32), .int v4]) (rest := []) S (metX2_wrong zx6) (cwV 2 hts (lw_V q591 q593 qs7 q172 q594) rfl rfl rfl (by decide +kernel) ⟨(Nat.le_of_ble_eq_true rfl), (Nat.le_of_ble_eq_true rfl)⟩) (c_preV hG hH hS (ci := 2) rfl zb5) rfl rfl hl.1 (by rw [yb5]; rfl) (lv_room (Nat.le_of_ble_eq_true rfl)) dX2_question_97 ⟨f1, f2⟩) (fun H locs hH hS => ?_)
  replace z := ob z
  obtain ⟨q7, zq7, z⟩ := z
  exact t_throw S hG hEx hlk zq7 hH hS z dX2_question_100
set_option maxHeartbeats 4000000 in
theorem metX2_question {l : Launch} {A : Nat → Prop} {D : va_G} {ac : Nat → ClassId} {K : KE} {h : HS} {a0 : Nat} {a1 : Int32} {x : HS × (Nat ⊕ Option Nat)} (z : fX2_question K h a0 a1 = some x) : vy_Met l yX2_question (ws_ yX2_question cX2_question 4 (some (.object "FourOnOne$Question"))) (rmC 718 33773 K h) (cP A D ac K h [va_rf (some a0), .int a1]) (tQq A D ac K x) (tX A D ac K x) (K.2.2.1 - h.2.1) (K.2.2.2 - h.2.2) A := by
  refine t_entry (by decide) (Nat.le_of_ble_eq_true rfl) ?_
  intro p e s m below meth c S hr hlk hnm hEx hG hRM hH hS ls hl
  replace hl : lv_has ls 4 [(0, va_rf (some a0)), (1, .int a1)] := hl
  replace hnm : meth.name = "question" := hnm
  replace S : CallFix p m c cX2_question 4 s _ lw_all RX2 := S
  obtain ⟨hx, hb, hml, hown, hts⟩ := id S
  unfold fX2_question at z
  refine c_aload_n hx hb dX2_question_0 rfl (lv_at hl 0 rfl) ?_
  refine lv_iload_n hx hb dX2_question_1 rfl (lv_at hl 1 rfl) ?_
  replace z := ob z
  obtain ⟨h1, zh1, z⟩ := z
  refine c_put S hG hH hS (ci := 2) (k := 1) rfl in_X2 tyX2 tyX2_ok nmX2 (Nat.le_of_ble_eq_true rfl) q383 (fun _ y => y) rfl (ty := .int) rfl rfl rfl zh1 dX2_question_2 (fun H locs hH hS => ?_)
  refine c_aload_n hx hb dX2_question_5 rfl (lv_at hl 0 rfl) ?_
  refine lv_iconst (v := (0 : Int32)) hx hb dX2_question_6 (by decide) ?_
  replace z := ob z
  obtain ⟨h2, zh2, z⟩ := z
  refine c_put S hG hH hS (ci := 2) (k := 2) rfl in_X2 tyX2 tyX2_ok nmX2 (Nat.le_of_ble_eq_true rfl) q384 (fun _ y => y) rfl (ty := .int) rfl rfl rfl zh2 dX2_question_7 (fun H locs hH hS => ?_)
  refine c_aload_n hx hb dX2_question_10 rfl (lv_at hl 0 rfl) ?_
  refine lv_iconst (v := (0 : Int32)) hx hb dX2_question_11 (by decide) ?_
  replace z := ob z
  obtain ⟨h3, zh3, z⟩ := z
  refine c_put S hG hH hS (ci := 2) (k := 4) rfl in_X2 tyX2 tyX2_ok nmX2 (Nat.le_of_ble_eq_true rfl) q386 (fun _ y => y) rfl (ty := .int) rfl rfl rfl zh3 dX2_question_12 (fun H locs hH hS => ?_)
  refine c_aload_n hx hb dX2_question_15 rfl (lv_at hl 0 rfl) ?_
  refine lv_sipush (v := (249 : Int32)) hx hb dX2_question_16 (by decide) ?_
  replace z := ob z
  obtain ⟨h4, zh4, z⟩ := z
  refine c_put S hG hH hS (ci := 2) (k := 5) rfl in_X2 tyX2 tyX2_ok nmX2 (Nat.le_of_ble_eq_true rfl) q387 (fun _ y => y) rfl (ty := .int) rfl rfl rfl zh4 dX2_question_19 (fun H locs hH hS => ?_)
  refine c_aload_n hx hb dX2_question_22 rfl (lv_at hl 0 rfl) ?_
  replace z := ob z
  obtain ⟨b5, zb5, z⟩ := z
  obtain ⟨yb5, zb5⟩ := rcv_e zb5
  replace z := ob z
  obtain ⟨x6, zx6, z⟩ := z
  refine t_callq hH hS hRM (fun _ _ f1 f2 => vy_runV (b := b5) (As := []) (rest := []) S (metX2_word zx6) (cwV 0 hts (lw_V q595 q597 qs8 q172 q598) rfl rfl rfl (by decide +kernel) ⟨(Nat.le_of_ble_eq_true rfl), (Nat.le_of_ble_eq_true rfl)⟩) (c_preV hG hH hS (ci := 2) rfl zb5) rfl rfl hl.1 (by rw [yb5]; rfl) (lv_room (Nat.le_of_ble_eq_true rfl)) dX2_question_23 ⟨f1, f2⟩) (fun q7 H locs ce e9 hH hS g1 g2 g3 => ?_) (fun v8 H locs e9 hH hS => ?_)
  · replace z := tb_l e9 z
    exact t_prop hEx hlk hH hS g1 g2 g3 z
  replace z := tb_r e9 z
  refine c_getsN S hG hS (i := 2) (List.mem_of_getElem? (i := 2) rfl) q1653 dX2_question_26 ?_
  replace z := ob z
  obtain ⟨x10, zx10, z⟩ := z
  refine c_calli hH hS hRM (fun _ _ f1 f2 => va_runSN (As := [va_rf v8, va_rf (K.2.1 2)]) (rest := []) S (metX0_find zx10) ⟨va_cnB 2 hts (lw_meth q780) rfl rfl rfl (hG.2.1.2.1 _ _ _ _ q778) (hts _ q167) (by decide +kernel) ⟨(Nat.le_of_ble_eq_true rfl), (Nat.le_of_ble_eq_true rfl)⟩, hts _ q779, trivial⟩ (c_pre hG hH hS) rfl rfl hl.1 rfl (lv_room (Nat.le_of_ble_eq_true rfl)) dX2_question_29 ⟨f1, f2⟩) (fun H locs hH hS => ?_)
  refine lv_istore_n (lv' := [(2, .int x10), (0, va_rf (some a0)), (1, .int a1)]) hx hb dX2_question_32 rfl hl (by decide) rfl (fun ls hl => ?_)
  refine lv_iload_n hx hb dX2_question_33 rfl (lv_at hl 0 rfl) ?_
  refine lv_iconst (v := (-1 : Int32)) hx hb dX2_question_34 (by decide) ?_
  refine lv_icmp_ne (tgt := 48) hx hb dX2_question_35 (by decide) (fun c11 => ?_) (fun c11 => ?_)
  rotate_left 1
  · replace z := it c11 z
    refine c_aload_n hx hb dX2_question_38 rfl (lv_at hl 1 rfl) ?_
    refine lv_iconst (v := (1 : Int32)) hx hb dX2_question_39 (by decide) ?_
    refine c_aload_n hx hb dX2_question_40 rfl (lv_at hl 1 rfl) ?_
    replace z := ob z
    obtain ⟨v27, zv27, z⟩ := z
    obtain ⟨fsv27, yv27, zv27⟩ := gI_e zv27
    refine c_get S hG hH (ci := 2) (k := 3) rfl in_X2 (Nat.le_of_ble_eq_true rfl) q385 (fun _ y => y) yv27 zv27 dX2_question_41 ?_
    replace z := ob z
    obtain ⟨b28, zb28, z⟩ := z
    obtain ⟨yb28, zb28⟩ := rcv_e zb28
    replace z := ob z
    obtain ⟨x29, zx29, z⟩ := z
    refine c_callq hH hS hRM (fun _ _ f1 f2 => va_runV (b := b28) (As := [.int (1 : Int32), .int v27]) (rest := []) S (metX2_wrong zx29) (cwV 2 hts (lw_V q591 q593 qs7 q172 q594) rfl rfl rfl (by decide +kernel) ⟨(Nat.le_of_ble_eq_true rfl), (Nat.le_of_ble_eq_true rfl)⟩) (c_preV hG hH hS (ci := 2) rfl zb28) rfl rfl hl.1 (by rw [yb28]; rfl) (lv_room (Nat.le_of_ble_eq_true rfl)) dX2_question_44 ⟨f1, f2⟩) (fun H locs hH hS => ?_)
    replace z := ob z
    obtain ⟨q30, zq30, z⟩ := z
    exact t_throw S hG hEx hlk zq30 hH hS z dX2_question_47
  replace z := ie c11 z
  refine lv_iload_n hx hb dX2_question_48 rfl (lv_at hl 0 rfl) ?_
  refine lv_iconst (v := (3 : Int32)) hx hb dX2_question_49 (by decide) ?_
  refine lv_icmp_ge (tgt := 69) hx hb dX2_question_50 (by decide) (fun c12 => ?_) (fun c12 => ?_)
  · replace z := it c12 z
    replace z := ob z
    obtain ⟨h13, zh13, z⟩ := z
    refine c_new S hG hH hS hRM (ci := 18) rfl in_X21 tyX21 tyX21_ok q1655 q1656 q206 df18_ok zh13 dX2_question_69 (fun H locs hH hS => ?_)
    refine lv_dup hx hb dX2_question_72 (ct_r _) ?_
    refine lv_iload_n hx hb dX2_question_73 rfl (lv_at hl 0 rfl) ?_
    refine c_null hx hb dX2_question_74 ?_
    refine c_aload_n hx hb dX2_question_75 rfl (lv_at hl 1 rfl) ?_
    replace z := ob z
    obtain ⟨b14, zb14, z⟩ := z
    obtain ⟨yb14, zb14⟩ := rcv_e zb14
    replace z := ob z
    obtain ⟨x15, zx15, z⟩ := z
    refine t_callq hH hS hRM (fun _ _ f1 f2 => vy_runV (b := b14) (As := []) (rest := [va_rf none, .int x10, va_rf (some x6.1.2.1), va_rf (some x6.1.2.1)]) S (metX2_sum (frR_ge 64) (rsD_ok 64) zx15) (cwV 0 hts (lw_V q992 q994 qs23 q172 q995) rfl rfl rfl (by decide +kernel) ⟨(Nat.le_of_ble_eq_true rfl), (Nat.le_of_ble_eq_true rfl)⟩) (c_preV hG hH hS (ci := 2) rfl zb14) rfl rfl hl.1 (by rw [yb14]; rfl) (lv_room (by simp [ct_r, ct_i, ct_l])) dX2_question_76 ⟨f1, f2⟩) (fun q16 H locs ce e18 hH hS g1 g2 g3 => ?_) (fun v17 H locs e18 hH hS => ?_)
    · replace z := tb_l e18 z
      exact t_prop hEx hlk hH hS g1 g2 g3 z
    replace z := tb_r e18 z
    replace z := ob z
    obtain ⟨x19, zx19, z⟩ := z
    refine c_callv hH hS hRM (fun _ _ f1 f2 => va_runI (b := x6.1.2.1) (As := [.int x10, va_rf none, va_rf v17]) (rest := [va_rf (some x6.1.2.1)]) S (metX21_init zx19) (cwI 3 hts (lw_meth q1659) rfl rfl rfl (hts _ q206) (hts _ q1657) (hts _ q1658) rfl (by decide +kernel) ⟨(Nat.le_of_ble_eq_true rfl), (Nat.le_of_ble_eq_true rfl)⟩) (c_pre hG hH hS) rfl rfl hl.1 rfl (lv_room (by simp [ct_r, ct_i, ct_l])) dX2_question_79 ⟨f1, f2⟩) (fun H locs hH hS => ?_)
    exact wX2_question_82 S hr hlk hnm hEx hG hRM x19 (some x6.1.2.1) z _ _ hH hS _ (lv_sub hl [1] rfl)
  replace z := ie c12 z
  replace z := ob z
  obtain ⟨h20, zh20, z⟩ := z
  refine c_new S hG hH hS hRM (ci := 18) rfl in_X21 tyX21 tyX21_ok q1655 q1656 q206 df18_ok zh20 dX2_question_53 (fun H locs hH hS => ?_)
  refine lv_dup hx hb dX2_question_56 (ct_r _) ?_
  refine lv_iload_n hx hb dX2_question_57 rfl (lv_at hl 0 rfl) ?_
  refine c_aload_n hx hb dX2_question_58 rfl (lv_at hl 1 rfl) ?_
  replace z := ob z
  obtain ⟨b21, zb21, z⟩ := z
  obtain ⟨yb21, zb21⟩ := rcv_e zb21
  replace z := ob z
  obtain ⟨x22, zx22, z⟩ := z
  refine t_callq hH hS hRM (fun _ _ f1 f2 => vy_runV (b := b21) (As := []) (rest := [.int x10, va_rf (some x6.1.2.1), va_rf (some x6.1.2.1)]) S (metX2_test (frR_ge 64) (rsD_ok 64) zx22) (cwV 0 hts (lw_V q1184 q1186 qs31 q172 q1187) rfl rfl rfl (by decide +kernel) ⟨(Nat.le_of_ble_eq_true rfl), (Nat.le_of_ble_eq_true rfl)⟩) (c_preV hG hH hS (ci := 2) rfl zb21) rfl rfl hl.1 (by rw [yb21]; rfl) (lv_room (by simp [ct_r, ct_i, ct_l])) dX2_question_59 ⟨f1, f2⟩) (fun q23 H locs ce e25 hH hS g1 g2 g3 => ?_) (fun v24 H locs e25 hH hS => ?_)
  · replace z := tb_l e25 z
    exact t_prop hEx hlk hH hS g1 g2 g3 z
  replace z := tb_r e25 z
  refine c_null hx hb dX2_question_62 ?_
  replace z := ob z
  obtain ⟨x26, zx26, z⟩ := z
  refine c_callv hH hS hRM (fun _ _ f1 f2 => va_runI (b := x6.1.2.1) (As := [.int x10, va_rf v24, va_rf none]) (rest := [va_rf (some x6.1.2.1)]) S (metX21_init zx26) (cwI 3 hts (lw_meth q1659) rfl rfl rfl (hts _ q206) (hts _ q1657) (hts _ q1658) rfl (by decide +kernel) ⟨(Nat.le_of_ble_eq_true rfl), (Nat.le_of_ble_eq_true rfl)⟩) (c_pre hG hH hS) rfl rfl hl.1 rfl (lv_room (by simp [ct_r, ct_i, ct_l])) dX2_question_63 ⟨f1, f2⟩) (fun H locs hH hS => ?_)
  refine lv_goto (tgt := 82) hx hb dX2_question_66 (by decide) ?_
  exact wX2_question_82 S hr hlk hnm hEx hG hRM x26 (some x6.1.2.1) z _ _ hH hS _ (lv_sub hl [1] rfl)
/-! FourOnOne.ask(I)J -/
def fX0_ask_39 (K : KE) (a0 : Nat) (h : HS) (t0 : Option Nat) : Option (HS × Int64) :=
  (gI K h t0 3 6).bind fun v1 =>
  (pV h (some a0) 0 3 (.int v1)).bind fun h2 =>
  (gI K h2 t0 3 7).bind fun v3 =>
  (pV h2 (some a0) 0 4 (.int v3)).bind fun h4 =>
  some (h4, (-1000000000000000 : Int64))
def fX0_ask_78 (K : KE) (a0 : Nat) : Nat → HS → Int32 → Option Nat → Int32 → Option (HS × Int64)
  | 0, _, _, _, _ => none
  | n + 1, h, a1, a3, a4 =>
    (gI K h (some a0) 0 19).bind fun v1 =>
    (rcv K h (some a0) 0).bind fun b2 =>
    (fX0_films K h b2).bind fun x3 =>
    if x3 ≤ v1 then
      (rcv K h a3 18).bind fun b5 =>
      (fX21_answer K h b5).bind fun x6 =>
      some (h, x6)
    else
    (gR K h (some a0) 0 7).bind fun v7 =>
    (gR K h v7 4 0).bind fun v8 =>
    (gR K h (some a0) 0 9).bind fun v9 =>
    (gI K h v9 5 0).bind fun v10 =>
    (sCL h v8 1 (0 : Int32) ((v10 - v10 / (24 : Int32) * (24 : Int32)).toInt64)).bind fun h11 =>
    (gR K h11 (some a0) 0 7).bind fun v12 =>
    (gR K h11 v12 4 0).bind fun v13 =>
    (gI K h11 (some a0) 0 19).bind fun v14 =>
    (rcv K h11 (some a0) 0).bind fun b15 =>
    (fX0_filmOf K h11 b15 v14).bind fun x16 =>
    (gI K h11 x16 7 1).bind fun v17 =>
    (sCL h11 v13 1 (3 : Int32) v17.toInt64).bind fun h18 =>
    (gR K h18 (some a0) 0 7).bind fun v19 =>
    (gR K h18 v19 4 0).bind fun v20 =>
    (gR K h18 (some a0) 0 9).bind fun v21 =>
    (gR K h18 v21 5 4).bind fun v22 =>
    (cR K h18 v22 8 a4).bind fun v23 =>
    (gI K h18 (some a0) 0 19).bind fun v24 =>
    (cI K h18 v23 0 v24).bind fun v25 =>
    (sCL h18 v20 1 (4 : Int32) v25.toInt64).bind fun h26 =>
    (gR K h26 (some a0) 0 7).bind fun v27 =>
    (gR K h26 v27 4 0).bind fun v28 =>
    (gR K h26 (some a0) 0 9).bind fun v29 =>
    (gI K h26 (some a0) 0 19).bind fun v30 =>
    (rcv K h26 v29 5).bind fun b31 =>
    (fX5_score K h26 b31 a4 v30).bind fun x32 =>
    (sCL h26 v28 1 (5 : Int32) x32.toInt64).bind fun h33 =>
    (gR K h33 (some a0) 0 7).bind fun v34 =>
    (gR K h33 v34 4 0).bind fun v35 =>
    (gI K h33 (some a0) 0 19).bind fun v36 =>
    (sCL h33 v35 1 (6 : Int32) v36.toInt64).bind fun h37 =>
    (gR K h37 (some a0) 0 7).bind fun v38 =>
    (gR K h37 v38 4 0).bind fun v39 =>
    (gI K h37 (some a0) 0 19).bind fun v40 =>
    (rcv K h37 (some a0) 0).bind fun b41 =>
    (fX0_worthOf K h37 b41 a1 v40).bind fun x42 =>
    (sCL h37 v39 1 (7 : Int32) x42.toInt64).bind fun h43 =>
    (gI K h43 (some a0) 0 19).bind fun v44 =>
    (gR K h43 (some a0) 0 7).bind fun v45 =>
    (rcv K h43 a3 18).bind fun b46 =>
    (fX21_meets K h43 b46 v44 v45).bind fun x47 =>
    (gI K x47 (some a0) 0 19).bind fun v48 =>
    (pV x47 (some a0) 0 19 (.int (v48 + (1 : Int32)))).bind fun h49 =>
    fX0_ask_78 K a0 n h49 a1 a3 a4
def fX0_ask (K : KE) (h : HS) (a0 : Nat) (a1 : Int32) : Option (HS × Int64) :=
  (rcv K h (some a0) 0).bind fun b1 =>
  (fX0_taken K h b1).bind fun x2 =>
  (rcv K x2.1 (some a0) 0).bind fun b3 =>
  (fX0_isPerson K x2.1 b3 a1).bind fun x4 =>
  if x4 = 0 then
    some (x2.1, (-1000000000000000 : Int64))
  else
  (pV x2.1 (some a0) 0 3 (.int (0 : Int32))).bind fun h6 =>
  (pV h6 (some a0) 0 4 (.int (-1 : Int32))).bind fun h7 =>
  (gR K h7 (some a0) 0 5).bind fun v8 =>
  (rcv K h7 v8 2).bind fun b9 =>
  (fX2_question K h7 b9 x2.2).bind fun x10 =>
  tb x10 (fun q11 => fX0_ask_39 K a0 x10.1 (some q11)) fun v12 =>
  (gR K x10.1 (some a0) 0 9).bind fun v14 =>
  (rcv K x10.1 v14 5).bind fun b15 =>
  (fX5_profile K x10.1 b15 a1).bind fun x16 =>
  (pV x10.1 (some a0) 0 19 (.int (0 : Int32))).bind fun h17 =>
  fX0_ask_78 K a0 FU h17 a1 v12 x16
set_option maxHeartbeats 4000000 in
theorem wX0_ask_39 {p : Program} {l : Launch} {e : Env} {s : State} {m : MethodId} {args : Array Value} {below : List Frame} {meth : Method} {c : Code} {A : Nat → Prop} {D : va_G} {ac : Nat → ClassId} {K : KE} {h0 : HS} {a0 : Nat} (S : CallFix p m c cX0_ask 5 s args lw_all RX0) (hr : meth.sig.returnType = some .long) (hlk : meth.locks = false) (hnm : meth.name = "ask") (hTb : c.exceptionTable.toList = [⟨27, 36, 39, 126⟩]) (hG : GK A D ac K s) (hRM : RM K s (rmC 719 33796 K h0)) {x : HS × Int64} : ∀ (h : HS) (t0 : Option Nat), fX0_ask_39 K a0 h t0 = some x → cGo p l e (rmC 719 33796 K h0) s m args below meth c A D ac K (MQ below (cQl A D ac K x) args s (K.2.2.1 - h0.2.1) (K.2.2.2 - h0.2.2) A) 5 39 [(0, va_rf (some a0))] [va_rf t0] h := by
  obtain ⟨hx, hb, hml, hown, hts⟩ := id S
  intro h t0 z H locs hH hS ls hl
  unfold fX0_ask_39 at z
  refine c_astore (lv' := [(4, va_rf t0), (0, va_rf (some a0))]) hx hb dX0_ask_39 hl (by decide) rfl (fun ls hl => ?_)
  refine c_aload_n hx hb dX0_ask_41 rfl (lv_at hl 1 rfl) ?_
  refine c_aload hx hb dX0_ask_42 (lv_at hl 0 rfl) ?_
  replace z := ob z
  obtain ⟨v1, zv1, z⟩ := z
  obtain ⟨fsv1, yv1, zv1⟩ := gI_e zv1
  refine c_getN S hG hH (ci := 3) (k := 6) rfl in_X3 (Nat.le_of_ble_eq_true rfl) q361 (fun _ y => y) yv1 zv1 dX0_ask_44 ?_
  replace z := ob z
  obtain ⟨h2, zh2, z⟩ := z
  refine c_put S hG hH hS (ci := 0) (k := 3) rfl in_X0 tyX0 tyX0_ok nmX0 (Nat.le_of_ble_eq_true rfl) q482 (fun _ y => y) rfl (ty := .int) rfl rfl rfl zh2 dX0_ask_47 (fun H locs hH hS => ?_)
  refine c_aload_n hx hb dX0_ask_50 rfl (lv_at hl 1 rfl) ?_
  refine c_aload hx hb dX0_ask_51 (lv_at hl 0 rfl) ?_
  replace z := ob z
  obtain ⟨v3, zv3, z⟩ := z
  obtain ⟨fsv3, yv3, zv3⟩ := gI_e zv3
  refine c_getN S hG hH (ci := 3) (k := 7) rfl in_X3 (Nat.le_of_ble_eq_true rfl) q363 (fun _ y => y) yv3 zv3 dX0_ask_53 ?_
  replace z := ob z
  obtain ⟨h4, zh4, z⟩ := z
  refine c_put S hG hH hS (ci := 0) (k := 4) rfl in_X0 tyX0 tyX0_ok nmX0 (Nat.le_of_ble_eq_true rfl) q483 (fun _ y => y) rfl (ty := .int) rfl rfl rfl zh4 dX0_ask_56 (fun H locs hH hS => ?_)
  refine lv_ldc2 hx hb hown (hts _ q1527) dX0_ask_59 ?_
  exact c_lret S hr hlk hH hS z dX0_ask_62
set_option maxHeartbeats 4000000 in
theorem wX0_ask_78 {p : Program} {l : Launch} {e : Env} {s : State} {m : MethodId} {args : Array Value} {below : List Frame} {meth : Method} {c : Code} {A : Nat → Prop} {D : va_G} {ac : Nat → ClassId} {K : KE} {h0 : HS} {a0 : Nat} (S : CallFix p m c cX0_ask 5 s args lw_all RX0) (hr : meth.sig.returnType = some .long) (hlk : meth.locks = false) (hnm : meth.name = "ask") (hTb : c.exceptionTable.toList = [⟨27, 36, 39, 126⟩]) (hG : GK A D ac K s) (hRM : RM K s (rmC 719 33796 K h0)) {x : HS × Int64} : ∀ (n : Nat) (h : HS) (a1 : Int32) (a3 : Option Nat) (a4 : Int32), fX0_ask_78 K a0 n h a1 a3 a4 = some x → cGo p l e (rmC 719 33796 K h0) s m args below meth c A D ac K (MQ below (cQl A D ac K x) args s (K.2.2.1 - h0.2.1) (K.2.2.2 - h0.2.2) A) 5 78 [(0, va_rf (some a0)), (1, .int a1), (3, va_rf a3), (4, .int a4)] [] h := by
  obtain ⟨hx, hb, hml, hown, hts⟩ := id S
  intro n
  induction n with
  | zero => intro h a1 a3 a4 z; cases z
  | succ n ih =>
    intro h a1 a3 a4 z H locs hH hS ls hl
    rw [fX0_ask_78] at z
    refine c_aload_n hx hb dX0_ask_78 rfl (lv_at hl 0 rfl) ?_
    replace z := ob z
    obtain ⟨v1, zv1, z⟩ := z
    obtain ⟨fsv1, yv1, zv1⟩ := gI_e zv1
    refine c_get S hG hH (ci := 0) (k := 19) rfl in_X0 (Nat.le_of_ble_eq_true rfl) q499 (fun _ y => y) yv1 zv1 dX0_ask_79 ?_
    refine c_aload_n hx hb dX0_ask_82 rfl (lv_at hl 0 rfl) ?_
    replace z := ob z
    obtain ⟨b2, zb2, z⟩ := z
    obtain ⟨yb2, zb2⟩ := rcv_e zb2
    replace z := ob z
    obtain ⟨x3, zx3, z⟩ := z
    refine c_calli hH hS hRM (fun _ _ f1 f2 => va_runV (b := b2) (As := []) (rest := [.int v1]) S (metX0_films zx3) (cwV 0 hts (lw_V q1274 q1276 qs36 q167 q1277) rfl rfl rfl (by decide +kernel) ⟨(Nat.le_of_ble_eq_true rfl), (Nat.le_of_ble_eq_true rfl)⟩) (c_preV hG hH hS (ci := 0) rfl zb2) rfl rfl hl.1 (by rw [yb2]; rfl) (lv_room (Nat.le_of_ble_eq_true rfl)) dX0_ask_83 ⟨f1, f2⟩) (fun H locs hH hS => ?_)
    refine lv_icmp_ge (tgt := 238) hx hb dX0_ask_86 (by decide) (fun c4 => ?_) (fun c4 => ?_)
    · replace z := it c4 z
      refine c_aload_n hx hb dX0_ask_238 rfl (lv_at hl 2 rfl) ?_
      replace z := ob z
      obtain ⟨b5, zb5, z⟩ := z
      obtain ⟨yb5, zb5⟩ := rcv_e zb5
      replace z := ob z
      obtain ⟨x6, zx6, z⟩ := z
      refine c_calll hH hS hRM (fun _ _ f1 f2 => va_runV (b := b5) (As := []) (rest := []) S (metX21_answer zx6) (cwV 0 hts (lw_V q1687 q1688 q1689 q206 q1690) rfl rfl rfl (by decide +kernel) ⟨(Nat.le_of_ble_eq_true rfl), (Nat.le_of_ble_eq_true rfl)⟩) (c_preV hG hH hS (ci := 18) rfl zb5) rfl rfl hl.1 (by rw [yb5]; rfl) (lv_room (Nat.le_of_ble_eq_true rfl)) dX0_ask_239 ⟨f1, f2⟩) (fun H locs hH hS => ?_)
      exact c_lret S hr hlk hH hS z dX0_ask_242
    replace z := ie c4 z
    refine c_aload_n hx hb dX0_ask_89 rfl (lv_at hl 0 rfl) ?_
    replace z := ob z
    obtain ⟨v7, zv7, z⟩ := z
    obtain ⟨fsv7, yv7, zv7⟩ := gR_e zv7
    refine c_get S hG hH (ci := 0) (k := 7) rfl in_X0 (Nat.le_of_ble_eq_true rfl) q487 (fun _ y => y) yv7 zv7 dX0_ask_90 ?_
    replace z := ob z
    obtain ⟨v8, zv8, z⟩ := z
    obtain ⟨fsv8, yv8, zv8⟩ := gR_e zv8
    refine c_getN S hG hH (ci := 4) (k := 0) rfl in_X4 (Nat.le_of_ble_eq_true rfl) q416 (fun _ y => y) yv8 zv8 dX0_ask_93 ?_
    refine lv_iconst (v := (0 : Int32)) hx hb dX0_ask_96 (by decide) ?_
    refine c_aload_n hx hb dX0_ask_97 rfl (lv_at hl 0 rfl) ?_
    replace z := ob z
    obtain ⟨v9, zv9, z⟩ := z
    obtain ⟨fsv9, yv9, zv9⟩ := gR_e zv9
    refine c_get S hG hH (ci := 0) (k := 9) rfl in_X0 (Nat.le_of_ble_eq_true rfl) q489 (fun _ y => y) yv9 zv9 dX0_ask_98 ?_
    replace z := ob z
    obtain ⟨v10, zv10, z⟩ := z
    obtain ⟨fsv10, yv10, zv10⟩ := gI_e zv10
    refine c_getN S hG hH (ci := 5) (k := 0) rfl in_X5 (Nat.le_of_ble_eq_true rfl) q430 (fun _ y => y) yv10 zv10 dX0_ask_101 ?_
    refine lv_bipush (v := (24 : Int32)) hx hb dX0_ask_104 (by decide) ?_
    refine lv_irem hx hb dX0_ask_106 (by decide) ?_
    refine lv_i2l (v := (v10 - v10 / (24 : Int32) * (24 : Int32)).toInt64) hx hb dX0_ask_107 rfl ?_
    replace z := ob z
    obtain ⟨h11, zh11, z⟩ := z
    refine c_last S hG hH hS zh11 dX0_ask_108 (fun H locs hH hS => ?_)
    refine c_aload_n hx hb dX0_ask_109 rfl (lv_at hl 0 rfl) ?_
    replace z := ob z
    obtain ⟨v12, zv12, z⟩ := z
    obtain ⟨fsv12, yv12, zv12⟩ := gR_e zv12
    refine c_get S hG hH (ci := 0) (k := 7) rfl in_X0 (Nat.le_of_ble_eq_true rfl) q487 (fun _ y => y) yv12 zv12 dX0_ask_110 ?_
    replace z := ob z
    obtain ⟨v13, zv13, z⟩ := z
    obtain ⟨fsv13, yv13, zv13⟩ := gR_e zv13
    refine c_getN S hG hH (ci := 4) (k := 0) rfl in_X4 (Nat.le_of_ble_eq_true rfl) q416 (fun _ y => y) yv13 zv13 dX0_ask_113 ?_
    refine lv_iconst (v := (3 : Int32)) hx hb dX0_ask_116 (by decide) ?_
    refine c_aload_n hx hb dX0_ask_117 rfl (lv_at hl 0 rfl) ?_
    refine c_aload_n hx hb dX0_ask_118 rfl (lv_at hl 0 rfl) ?_
    replace z := ob z
    obtain ⟨v14, zv14, z⟩ := z
    obtain ⟨fsv14, yv14, zv14⟩ := gI_e zv14
    refine c_get S hG hH (ci := 0) (k := 19) rfl in_X0 (Nat.le_of_ble_eq_true rfl) q499 (fun _ y => y) yv14 zv14 dX0_ask_119 ?_
    replace z := ob z
    obtain ⟨b15, zb15, z⟩ := z
    obtain ⟨yb15, zb15⟩ := rcv_e zb15
    replace z := ob z
    obtain ⟨x16, zx16, z⟩ := z
    refine c_callq hH hS hRM (fun _ _ f1 f2 => va_runV (b := b15) (As := [.int v14]) (rest := [.int (3 : Int32), va_rf v13]) S (metX0_filmOf zx16) (cwV 1 hts (lw_V q1327 q1329 qs40 q167 q1330) rfl rfl rfl (by decide +kernel) ⟨(Nat.le_of_ble_eq_true rfl), (Nat.le_of_ble_eq_true rfl)⟩) (c_preV hG hH hS (ci := 0) rfl zb15) rfl rfl hl.1 (by rw [yb15]; rfl) (lv_room (by simp [ct_r, ct_i, ct_l])) dX0_ask_122 ⟨f1, f2⟩) (fun H locs hH hS => ?_)
    replace z := ob z
    obtain ⟨v17, zv17, z⟩ := z
    obtain ⟨fsv17, yv17, zv17⟩ := gI_e zv17
    refine c_getN S hG hH (ci := 7) (k := 1) rfl in_X8 (Nat.le_of_ble_eq_true rfl) q932 (fun _ y => y) yv17 zv17 dX0_ask_125 ?_
    refine lv_i2l (v := v17.toInt64) hx hb dX0_ask_128 rfl ?_
    replace z := ob z
    obtain ⟨h18, zh18, z⟩ := z
    refine c_last S hG hH hS zh18 dX0_ask_129 (fun H locs hH hS => ?_)
    refine c_aload_n hx hb dX0_ask_130 rfl (lv_at hl 0 rfl) ?_
    replace z := ob z
    obtain ⟨v19, zv19, z⟩ := z
    obtain ⟨fsv19, yv19, zv19⟩ := gR_e zv19
    refine c_get S hG hH (ci := 0) (k := 7) rfl in_X0 (Nat.le_of_ble_eq_true rfl) q487 (fun _ y => y) yv19 zv19 dX0_ask_131 ?_
    replace z := ob z
    obtain ⟨v20, zv20, z⟩ := z
    obtain ⟨fsv20, yv20, zv20⟩ := gR_e zv20
    refine c_getN S hG hH (ci := 4) (k := 0) rfl in_X4 (Nat.le_of_ble_eq_true rfl) q416 (fun _ y => y) yv20 zv20 dX0_ask_134 ?_
    refine lv_iconst (v := (4 : Int32)) hx hb dX0_ask_137 (by decide) ?_
    refine c_aload_n hx hb dX0_ask_138 rfl (lv_at hl 0 rfl) ?_
    replace z := ob z
    obtain ⟨v21, zv21, z⟩ := z
    obtain ⟨fsv21, yv21, zv21⟩ := gR_e zv21
    refine c_get S hG hH (ci := 0) (k := 9) rfl in_X0 (Nat.le_of_ble_eq_true rfl) q489 (fun _ y => y) yv21 zv21 dX0_ask_139 ?_
    replace z := ob z
    obtain ⟨v22, zv22, z⟩ := z
    obtain ⟨fsv22, yv22, zv22⟩ := gR_e zv22
    refine c_getN S hG hH (ci := 5) (k := 4) rfl in_X5 (Nat.le_of_ble_eq_true rfl) q438 (fun _ y => y) yv22 zv22 dX0_ask_142 ?_
    refine lv_iload hx hb dX0_ask_145 (lv_at hl 3 rfl) ?_
    replace z := ob z
    obtain ⟨v23, zv23, z⟩ := z
    refine c_aald S hG hH 8 rfl rfl zv23 dX0_ask_147 ?_
    refine c_aload_n hx hb dX0_ask_148 rfl (lv_at hl 0 rfl) ?_
    replace z := ob z
    obtain ⟨v24, zv24, z⟩ := z
    obtain ⟨fsv24, yv24, zv24⟩ := gI_e zv24
    refine c_get S hG hH (ci := 0) (k := 19) rfl in_X0 (Nat.le_of_ble_eq_true rfl) q499 (fun _ y => y) yv24 zv24 dX0_ask_149 ?_
    replace z := ob z
    obtain ⟨v25, zv25, z⟩ := z
    refine c_iald S hG hH zv25 dX0_ask_152 ?_
    refine lv_i2l (v := v25.toInt64) hx hb dX0_ask_153 rfl ?_
    replace z := ob z
    obtain ⟨h26, zh26, z⟩ := z
    refine c_last S hG hH hS zh26 dX0_ask_154 (fun H locs hH hS => ?_)
    refine c_aload_n hx hb dX0_ask_155 rfl (lv_at hl 0 rfl) ?_
    replace z := ob z
    obtain ⟨v27, zv27, z⟩ := z
    obtain ⟨fsv27, yv27, zv27⟩ := gR_e zv27
    refine c_get S hG hH (ci := 0) (k := 7) rfl in_X0 (Nat.le_of_ble_eq_true rfl) q487 (fun _ y => y) yv27 zv27 dX0_ask_156 ?_
    replace z := ob z
    obtain ⟨v28, zv28, z⟩ := z
    obtain ⟨fsv28, yv28, zv28⟩ := gR_e zv28
    refine c_getN S hG hH (ci := 4) (k := 0) rfl in_X4 (Nat.le_of_ble_eq_true rfl) q416 (fun _ y => y) yv28 zv28 dX0_ask_159 ?_
    refine lv_iconst (v := (5 : Int32)) hx hb dX0_ask_162 (by decide) ?_
    refine c_aload_n hx hb dX0_ask_163 rfl (lv_at hl 0 rfl) ?_
    replace z := ob z
    obtain ⟨v29, zv29, z⟩ := z
    obtain ⟨fsv29, yv29, zv29⟩ := gR_e zv29
    refine c_get S hG hH (ci := 0) (k := 9) rfl in_X0 (Nat.le_of_ble_eq_true rfl) q489 (fun _ y => y) yv29 zv29 dX0_ask_164 ?_
    refine lv_iload hx hb dX0_ask_167 (lv_at hl 3 rfl) ?_
    refine c_aload_n hx hb dX0_ask_169 rfl (lv_at hl 0 rfl) ?_
    replace z := ob z
    obtain ⟨v30, zv30, z⟩ := z
    obtain ⟨fsv30, yv30, zv30⟩ := gI_e zv30
    refine c_get S hG hH (ci := 0) (k := 19) rfl in_X0 (Nat.le_of_ble_eq_true rfl) q499 (fun _ y => y) yv30 zv30 dX0_ask_170 ?_
    replace z := ob z
    obtain ⟨b31, zb31, z⟩ := z
    obtain ⟨yb31, zb31⟩ := rcv_e zb31
    replace z := ob z
    obtain ⟨x32, zx32, z⟩ := z
    refine c_calli hH hS hRM (fun _ _ f1 f2 => va_runV (b := b31) (As := [.int a4, .int v30]) (rest := [.int (5 : Int32), va_rf v28]) S (metX5_score zx32) (cwV 2 hts (lw_V q1678 q1382 q1383 q178 q1384) rfl rfl rfl (by decide +kernel) ⟨(Nat.le_of_ble_eq_true rfl), (Nat.le_of_ble_eq_true rfl)⟩) (c_preV hG hH hS (ci := 5) rfl zb31) rfl rfl hl.1 (by rw [yb31]; rfl) (lv_room (by simp [ct_r, ct_i, ct_l])) dX0_ask_173 ⟨f1, f2⟩) (fun H locs hH hS => ?_)
    refine lv_i2l (v := x32.toInt64) hx hb dX0_ask_176 rfl ?_
    replace z := ob z
    obtain ⟨h33, zh33, z⟩ := z
    refine c_last S hG hH hS zh33 dX0_ask_177 (fun H locs hH hS => ?_)
    refine c_aload_n hx hb dX0_ask_178 rfl (lv_at hl 0 rfl) ?_
    replace z := ob z
    obtain ⟨v34, zv34, z⟩ := z
    obtain ⟨fsv34, yv34, zv34⟩ := gR_e zv34
    refine c_get S hG hH (ci := 0) (k := 7) rfl in_X0 (Nat.le_of_ble_eq_true rfl) q487 (fun _ y => y) yv34 zv34 dX0_ask_179 ?_
    replace z := ob z
    obtain ⟨v35, zv35, z⟩ := z
    obtain ⟨fsv35, yv35, zv35⟩ := gR_e zv35
    refine c_getN S hG hH (ci := 4) (k := 0) rfl in_X4 (Nat.le_of_ble_eq_true rfl) q416 (fun _ y => y) yv35 zv35 dX0_ask_182 ?_
    refine lv_bipush (v := (6 : Int32)) hx hb dX0_ask_185 (by decide) ?_
    refine c_aload_n hx hb dX0_ask_187 rfl (lv_at hl 0 rfl) ?_
    replace z := ob z
    obtain ⟨v36, zv36, z⟩ := z
    obtain ⟨fsv36, yv36, zv36⟩ := gI_e zv36
    refine c_get S hG hH (ci := 0) (k := 19) rfl in_X0 (Nat.le_of_ble_eq_true rfl) q499 (fun _ y => y) yv36 zv36 dX0_ask_188 ?_
    refine lv_i2l (v := v36.toInt64) hx hb dX0_ask_191 rfl ?_
    replace z := ob z
    obtain ⟨h37, zh37, z⟩ := z
    refine c_last S hG hH hS zh37 dX0_ask_192 (fun H locs hH hS => ?_)
    refine c_aload_n hx hb dX0_ask_193 rfl (lv_at hl 0 rfl) ?_
    replace z := ob z
    obtain ⟨v38, zv38, z⟩ := z
    obtain ⟨fsv38, yv38, zv38⟩ := gR_e zv38
    refine c_get S hG hH (ci := 0) (k := 7) rfl in_X0 (Nat.le_of_ble_eq_true rfl) q487 (fun _ y => y) yv38 zv38 dX0_ask_194 ?_
    replace z := ob z
    obtain ⟨v39, zv39, z⟩ := z
    obtain ⟨fsv39, yv39, zv39⟩ := gR_e zv39
    refine c_getN S hG hH (ci := 4) (k := 0) rfl in_X4 (Nat.le_of_ble_eq_true rfl) q416 (fun _ y => y) yv39 zv39 dX0_ask_197 ?_
    refine lv_bipush (v := (7 : Int32)) hx hb dX0_ask_200 (by decide) ?_
    refine c_aload_n hx hb dX0_ask_202 rfl (lv_at hl 0 rfl) ?_
    refine lv_iload_n hx hb dX0_ask_203 rfl (lv_at hl 1 rfl) ?_
    refine c_aload_n hx hb dX0_ask_204 rfl (lv_at hl 0 rfl) ?_
    replace z := ob z
    obtain ⟨v40, zv40, z⟩ := z
    obtain ⟨fsv40, yv40, zv40⟩ := gI_e zv40
    refine c_get S hG hH (ci := 0) (k := 19) rfl in_X0 (Nat.le_of_ble_eq_true rfl) q499 (fun _ y => y) yv40 zv40 dX0_ask_205 ?_
    replace z := ob z
    obtain ⟨b41, zb41, z⟩ := z
    obtain ⟨yb41, zb41⟩ := rcv_e zb41
    replace z := ob z
    obtain ⟨x42, zx42, z⟩ := z
    refine c_calli hH hS hRM (fun _ _ f1 f2 => va_runV (b := b41) (As := [.int a1, .int v40]) (rest := [.int (7 : Int32), va_rf v39]) S (metX0_worthOf zx42) (cwV 2 hts (lw_V q1471 q1473 qs46 q167 q1474) rfl rfl rfl (by decide +kernel) ⟨(Nat.le_of_ble_eq_true rfl), (Nat.le_of_ble_eq_true rfl)⟩) (c_preV hG hH hS (ci := 0) rfl zb41) rfl rfl hl.1 (by rw [yb41]; rfl) (lv_room (by simp [ct_r, ct_i, ct_l])) dX0_ask_208 ⟨f1, f2⟩) (fun H locs hH hS => ?_)
    refine lv_i2l (v := x42.toInt64) hx hb dX0_ask_211 rfl ?_
    replace z := ob z
    obtain ⟨h43, zh43, z⟩ := z
    refine c_last S hG hH hS zh43 dX0_ask_212 (fun H locs hH hS => ?_)
    refine c_aload_n hx hb dX0_ask_213 rfl (lv_at hl 2 rfl) ?_
    refine c_aload_n hx hb dX0_ask_214 rfl (lv_at hl 0 rfl) ?_
    replace z := ob z
    obtain ⟨v44, zv44, z⟩ := z
    obtain ⟨fsv44, yv44, zv44⟩ := gI_e zv44
    refine c_get S hG hH (ci := 0) (k := 19) rfl in_X0 (Nat.le_of_ble_eq_true rfl) q499 (fun _ y => y) yv44 zv44 dX0_ask_215 ?_
    refine c_aload_n hx hb dX0_ask_218 rfl (lv_at hl 0 rfl) ?_
    replace z := ob z
    obtain ⟨v45, zv45, z⟩ := z
    obtain ⟨fsv45, yv45, zv45⟩ := gR_e zv45
    refine c_get S hG hH (ci := 0) (k := 7) rfl in_X0 (Nat.le_of_ble_eq_true rfl) q487 (fun _ y => y) yv45 zv45 dX0_ask_219 ?_
    replace z := ob z
    obtain ⟨b46, zb46, z⟩ := z
    obtain ⟨yb46, zb46⟩ := rcv_e zb46
    replace z := ob z
    obtain ⟨x47, zx47, z⟩ := z
    refine c_callv hH hS hRM (fun _ _ f1 f2 => va_runV (b := b46) (As := [.int v44, va_rf v45]) (rest := []) S (metX21_meets zx47) (cwV 2 hts (lw_V q1679 q1680 q1681 q206 q1682) rfl rfl rfl (by decide +kernel) ⟨(Nat.le_of_ble_eq_true rfl), (Nat.le_of_ble_eq_true rfl)⟩) (c_preV hG hH hS (ci := 18) rfl zb46) rfl rfl hl.1 (by rw [yb46]; rfl) (lv_room (Nat.le_of_ble_eq_true rfl)) dX0_ask_222 ⟨f1, f2⟩) (fun H locs hH hS => ?_)
    refine c_aload_n hx hb dX0_ask_225 rfl (lv_at hl 0 rfl) ?_
    refine lv_dup hx hb dX0_ask_226 rfl ?_
    replace z := ob z
    obtain ⟨v48, zv48, z⟩ := z
    obtain ⟨fsv48, yv48, zv48⟩ := gI_e zv48
    refine c_get S hG hH (ci := 0) (k := 19) rfl in_X0 (Nat.le_of_ble_eq_true rfl) q499 (fun _ y => y) yv48 zv48 dX0_ask_227 ?_
    refine lv_iconst (v := (1 : Int32)) hx hb dX0_ask_230 (by decide) ?_
    refine lv_iadd hx hb dX0_ask_231 ?_
    replace z := ob z
    obtain ⟨h49, zh49, z⟩ := z
    refine c_put S hG hH hS (ci := 0) (k := 19) rfl in_X0 tyX0 tyX0_ok nmX0 (Nat.le_of_ble_eq_true rfl) q499 (fun _ y => y) rfl (ty := .int) rfl rfl rfl zh49 dX0_ask_232 (fun H locs hH hS => ?_)
    refine lv_goto (tgt := 78) hx hb dX0_ask_235 (by decide) ?_
    exact ih h49 a1 a3 a4 z _ _ hH hS _ (lv_sub hl [0, 1, 2, 3] rfl)
set_option maxHeartbeats 4000000 in
theorem metX0_ask {l : Launch} {A : Nat → Prop} {D : va_G} {ac : Nat → ClassId} {K : KE} {h : HS} {a0 : Nat} {a1 : Int32} {x : HS × Int64} (z : fX0_ask K h a0 a1 = some x) : Met l yX0_ask (wsW_ yX0_ask cX0_ask 5 (some .long) [(27, 36, 39, 126)]) (rmC 719 33796 K h) (cP A D ac K h [va_rf (some a0), .int a1]) (cQl A D ac K x) (K.2.2.1 - h.2.1) (K.2.2.2 - h.2.2) A := by
  refine c_entryH (by decide) (Nat.le_of_ble_eq_true rfl) ?_
  intro p e s m below meth c S hr hlk hnm hTb hG hRM hH hS ls hl
  replace hl : lv_has ls 5 [(0, va_rf (some a0)), (1, .int a1)] := hl
  replace hnm : meth.name = "ask" := hnm
  replace S : CallFix p m c cX0_ask 5 s _ lw_all RX0 := S
  obtain ⟨hx, hb, hml, hown, hts⟩ := id S
  unfold fX0_ask at z
  refine c_aload_n hx hb dX0_ask_0 rfl (lv_at hl 0 rfl) ?_
  replace z := ob z
  obtain ⟨b1, zb1, z⟩ := z
  obtain ⟨yb1, zb1⟩ := rcv_e zb1
  replace z := ob z
  obtain ⟨x2, zx2, z⟩ := z
  refine c_calli hH hS hRM (fun _ _ f1 f2 => va_runV (b := b1) (As := []) (rest := []) S (metX0_taken zx2) (cwV 0 hts (lw_V q569 q571 qs3 q167 q572) rfl rfl rfl (by decide +kernel) ⟨(Nat.le_of_ble_eq_true rfl), (Nat.le_of_ble_eq_true rfl)⟩) (c_preV hG hH hS (ci := 0) rfl zb1) rfl rfl hl.1 (by rw [yb1]; rfl) (lv_room (Nat.le_of_ble_eq_true rfl)) dX0_ask_1 ⟨f1, f2⟩) (fun H locs hH hS => ?_)
  refine lv_istore_n (lv' := [(2, .int x2.2), (0, va_rf (some a0)), (1, .int a1)]) hx hb dX0_ask_4 rfl hl (by decide) rfl (fun ls hl => ?_)
  refine c_aload_n hx hb dX0_ask_5 rfl (lv_at hl 1 rfl) ?_
  refine lv_iload_n hx hb dX0_ask_6 rfl (lv_at hl 2 rfl) ?_
  replace z := ob z
  obtain ⟨b3, zb3, z⟩ := z
  obtain ⟨yb3, zb3⟩ := rcv_e zb3
  replace z := ob z
  obtain ⟨x4, zx4, z⟩ := z
  refine c_calli hH hS hRM (fun _ _ f1 f2 => va_runV (b := b3) (As := [.int a1]) (rest := []) S (metX0_isPerson zx4) (cwV 1 hts (lw_V q1340 q1342 qs42 q167 q1343) rfl rfl rfl (by decide +kernel) ⟨(Nat.le_of_ble_eq_true rfl), (Nat.le_of_ble_eq_true rfl)⟩) (c_preV hG hH hS (ci := 0) rfl zb3) rfl rfl hl.1 (by rw [yb3]; rfl) (lv_room (Nat.le_of_ble_eq_true rfl)) dX0_ask_7 ⟨f1, f2⟩) (fun H locs hH hS => ?_)
  refine lv_if_ne (tgt := 17) hx hb dX0_ask_10 (by decide) (fun c5 => ?_) (fun c5 => ?_)
  rotate_left 1
  · replace z := it c5 z
    refine lv_ldc2 hx hb hown (hts _ q1527) dX0_ask_13 ?_
    exact c_lret S hr hlk hH hS z dX0_ask_16
  replace z := ie c5 z
  refine c_aload_n hx hb dX0_ask_17 rfl (lv_at hl 1 rfl) ?_
  refine lv_iconst (v := (0 : Int32)) hx hb dX0_ask_18 (by decide) ?_
  replace z := ob z
  obtain ⟨h6, zh6, z⟩ := z
  refine c_put S hG hH hS (ci := 0) (k := 3) rfl in_X0 tyX0 tyX0_ok nmX0 (Nat.le_of_ble_eq_true rfl) q482 (fun _ y => y) rfl (ty := .int) rfl rfl rfl zh6 dX0_ask_19 (fun H locs hH hS => ?_)
  refine c_aload_n hx hb dX0_ask_22 rfl (lv_at hl 1 rfl) ?_
  refine lv_iconst (v := (-1 : Int32)) hx hb dX0_ask_23 (by decide) ?_
  replace z := ob z
  obtain ⟨h7, zh7, z⟩ := z
  refine c_put S hG hH hS (ci := 0) (k := 4) rfl in_X0 tyX0 tyX0_ok nmX0 (Nat.le_of_ble_eq_true rfl) q483 (fun _ y => y) rfl (ty := .int) rfl rfl rfl zh7 dX0_ask_24 (fun H locs hH hS => ?_)
  refine c_aload_n hx hb dX0_ask_27 rfl (lv_at hl 1 rfl) ?_
  replace z := ob z
  obtain ⟨v8, zv8, z⟩ := z
  obtain ⟨fsv8, yv8, zv8⟩ := gR_e zv8
  refine c_get S hG hH (ci := 0) (k := 5) rfl in_X0 (Nat.le_of_ble_eq_true rfl) q484 (fun _ y => y) yv8 zv8 dX0_ask_28 ?_
  refine lv_iload_n hx hb dX0_ask_31 rfl (lv_at hl 0 rfl) ?_
  replace z := ob z
  obtain ⟨b9, zb9, z⟩ := z
  obtain ⟨yb9, zb9⟩ := rcv_e zb9
  replace z := ob z
  obtain ⟨x10, zx10, z⟩ := z
  refine t_callq hH hS hRM (fun _ _ f1 f2 => vy_runV (b := b9) (As := [.int x2.2]) (rest := []) S (metX2_question zx10) (cwV 1 hts (lw_V q1649 q1650 q1651 q172 q1652) rfl rfl rfl (by decide +kernel) ⟨(Nat.le_of_ble_eq_true rfl), (Nat.le_of_ble_eq_true rfl)⟩) (c_preV hG hH hS (ci := 2) rfl zb9) rfl rfl hl.1 (by rw [yb9]; rfl) (lv_room (Nat.le_of_ble_eq_true rfl)) dX0_ask_32 ⟨f1, f2⟩) (fun q11 H locs ce e13 hH hS g1 g2 g3 => ?_) (fun v12 H locs e13 hH hS => ?_)
  · replace z := tb_l e13 z
    refine t_catch S (x := ⟨27, 36, 39, 126⟩) hTb (by decide) (by decide) q568 (hG.2.1.2.2.2.1 _ _ q311) g1 g2 g3 ?_
    exact wX0_ask_39 S hr hlk hnm hTb hG hRM x10.1 (some q11) z _ _ hH hS _ (lv_sub hl [1] rfl)
  replace z := tb_r e13 z
  refine c_astore_n (lv' := [(3, va_rf v12), (2, .int x2.2), (0, va_rf (some a0)), (1, .int a1)]) hx hb dX0_ask_35 rfl hl (by decide) rfl (fun ls hl => ?_)
  refine lv_goto (tgt := 63) hx hb dX0_ask_36 (by decide) ?_
  refine c_aload_n hx hb dX0_ask_63 rfl (lv_at hl 2 rfl) ?_
  replace z := ob z
  obtain ⟨v14, zv14, z⟩ := z
  obtain ⟨fsv14, yv14, zv14⟩ := gR_e zv14
  refine c_get S hG hH (ci := 0) (k := 9) rfl in_X0 (Nat.le_of_ble_eq_true rfl) q489 (fun _ y => y) yv14 zv14 dX0_ask_64 ?_
  refine lv_iload_n hx hb dX0_ask_67 rfl (lv_at hl 3 rfl) ?_
  replace z := ob z
  obtain ⟨b15, zb15, z⟩ := z
  obtain ⟨yb15, zb15⟩ := rcv_e zb15
  replace z := ob z
  obtain ⟨x16, zx16, z⟩ := z
  refine c_calli hH hS hRM (fun _ _ f1 f2 => va_runV (b := b15) (As := [.int a1]) (rest := []) S (metX5_profile zx16) (cwV 1 hts (lw_V q1552 q1367 q1368 q178 q1369) rfl rfl rfl (by decide +kernel) ⟨(Nat.le_of_ble_eq_true rfl), (Nat.le_of_ble_eq_true rfl)⟩) (c_preV hG hH hS (ci := 5) rfl zb15) rfl rfl hl.1 (by rw [yb15]; rfl) (lv_room (Nat.le_of_ble_eq_true rfl)) dX0_ask_68 ⟨f1, f2⟩) (fun H locs hH hS => ?_)
  refine lv_istore (lv' := [(4, .int x16), (3, va_rf v12), (2, .int x2.2), (0, va_rf (some a0)), (1, .int a1)]) hx hb dX0_ask_71 hl (by decide) (by simp [List.filter, ct_r, ct_i, ct_l]) (fun ls hl => ?_)
  refine c_aload_n hx hb dX0_ask_73 rfl (lv_at hl 3 rfl) ?_
  refine lv_iconst (v := (0 : Int32)) hx hb dX0_ask_74 (by decide) ?_
  replace z := ob z
  obtain ⟨h17, zh17, z⟩ := z
  refine c_put S hG hH hS (ci := 0) (k := 19) rfl in_X0 tyX0 tyX0_ok nmX0 (Nat.le_of_ble_eq_true rfl) q499 (fun _ y => y) rfl (ty := .int) rfl rfl rfl zh17 dX0_ask_75 (fun H locs hH hS => ?_)
  exact wX0_ask_78 S hr hlk hnm hTb hG hRM FU h17 a1 v12 x16 z _ _ hH hS _ (lv_sub hl [3, 4, 1, 0] rfl)

set_option maxRecDepth 100000
/-! FourOnOne$Reader.told(Ljava/lang/String;I)Z -/
def fX2_told_191 (K : KE) (a0 : Nat) (h : HS) (a2 : Int32) (t1 : Int32) : Option (HS × (Nat ⊕ Int32)) :=
  (rcv K h (some a0) 2).bind fun b1 =>
  (fX2_most K h b1 t1 a2).bind fun x2 =>
  tb x2 (fun q3 => some (x2.1, .inl q3)) fun v4 =>
  (gR K x2.1 (some a0) 2 6).bind fun v6 =>
  (gR K x2.1 v6 1 6).bind fun v7 =>
  (alc K x2.1 (.inr (6, df6)) 1).bind fun h8 =>
  (rcv K h8 (some a0) 2).bind fun b9 =>
  (fX2_fresh K h8 b9).bind fun x10 =>
  tb x10 (fun q11 => some (x10.1, .inl q11)) fun v12 =>
  (fX7_init_c6 K x10.1 x2.1.2.1 v12).bind fun x14 =>
  (rcv K x14 v7 19).bind fun b15 =>
  (fJ2_add K x14 b15 (some x2.1.2.1)).bind fun x16 =>
  some (x16.1, .inr (1 : Int32))
def fX2_told_244 (K : KE) (a0 : Nat) (h : HS) (a2 : Int32) (t1 : Int32) : Option (HS × (Nat ⊕ Int32)) :=
  (rcv K h (some a0) 2).bind fun b1 =>
  (fX2_most K h b1 t1 a2).bind fun x2 =>
  tb x2 (fun q3 => some (x2.1, .inl q3)) fun v4 =>
  (rcv K x2.1 (some a0) 2).bind fun b6 =>
  (fX2_film K x2.1 b6).bind fun x7 =>
  tb x7 (fun q8 => some (x7.1, .inl q8)) fun v9 =>
  some (x7.1, .inr (1 : Int32))
def fX2_told_276 (K : KE) (a0 : Nat) (h : HS) (a2 : Int32) (t1 : Int32) : Option (HS × (Nat ⊕ Int32)) :=
  (rcv K h (some a0) 2).bind fun b1 =>
  (fX2_most K h b1 t1 a2).bind fun x2 =>
  tb x2 (fun q3 => some (x2.1, .inl q3)) fun v4 =>
  (rcv K x2.1 (some a0) 2).bind fun b6 =>
  (fX2_fresh K x2.1 b6).bind fun x7 =>
  tb x7 (fun q8 => some (x7.1, .inl q8)) fun v9 =>
  (rcv K x7.1 (some a0) 2).bind fun b11 =>
  (fX2_number K x7.1 b11 (K.2.1 15) (0 : Int32) (23 : Int32)).bind fun x12 =>
  tb x12 (fun q13 => some (x12.1, .inl q13)) fun v14 =>
  (gR K x12.1 (some a0) 2 6).bind fun v16 =>
  (gR K x12.1 v16 1 8).bind fun v17 =>
  (alc K x12.1 (.inr (8, df8)) 4).bind fun h18 =>
  (rcv K h18 (some a0) 2).bind fun b19 =>
  (fX2_number K h18 b19 (K.2.1 16) v14 (23 : Int32)).bind fun x20 =>
  tb x20 (fun q21 => some (x20.1, .inl q21)) fun v22 =>
  (fX9_init K x20.1 x12.1.2.1 v9 v14 v22).bind fun x24 =>
  (rcv K x24 v17 19).bind fun b25 =>
  (fJ2_add K x24 b25 (some x12.1.2.1)).bind fun x26 =>
  some (x26.1, .inr (1 : Int32))
def fX2_told_132 (K : KE) (a0 : Nat) (h : HS) (a2 : Int32) (a4 : Int32) : Option (HS × (Nat ⊕ Int32)) :=
  if a4 = 0 then
    (gR K h (some a0) 2 6).bind fun v1 =>
    (gR K h v1 1 6).bind fun v2 =>
    (rcv K h v2 19).bind fun b3 =>
    (fJ2_size K h b3).bind fun x4 =>
    if x4 = (6 : Int32) then
      fX2_told_191 K a0 h a2 (1 : Int32)
    else
    fX2_told_191 K a0 h a2 (0 : Int32)
  else
  if a4 = 1 then
    (gR K h (some a0) 2 6).bind fun v7 =>
    (gR K h v7 1 7).bind fun v8 =>
    (rcv K h v8 19).bind fun b9 =>
    (fJ2_size K h b9).bind fun x10 =>
    if x10 = (8 : Int32) then
      fX2_told_244 K a0 h a2 (1 : Int32)
    else
    fX2_told_244 K a0 h a2 (0 : Int32)
  else
  if a4 = 2 then
    (gR K h (some a0) 2 6).bind fun v13 =>
    (gR K h v13 1 8).bind fun v14 =>
    (rcv K h v14 19).bind fun b15 =>
    (fJ2_size K h b15).bind fun x16 =>
    if x16 = (5 : Int32) then
      fX2_told_276 K a0 h a2 (1 : Int32)
    else
    fX2_told_276 K a0 h a2 (0 : Int32)
  else
  if a4 = 3 then
    (gR K h (some a0) 2 6).bind fun v19 =>
    (gR K h v19 1 8).bind fun v20 =>
    (gR K h (some a0) 2 6).bind fun v21 =>
    (gR K h v21 1 8).bind fun v22 =>
    (rcv K h (some a0) 2).bind fun b23 =>
    (fX2_known K h b23 v22).bind fun x24 =>
    tb x24 (fun q25 => some (x24.1, .inl q25)) fun v26 =>
    (rcv K x24.1 v20 19).bind fun b28 =>
    (fJ2_get K x24.1 b28 v26).bind fun x29 =>
    (ckL K x24.1 x29 [8]).bind fun u30 =>
    (gR K x24.1 (some a0) 2 6).bind fun v31 =>
    (gR K x24.1 v31 1 6).bind fun v32 =>
    (rcv K x24.1 (some a0) 2).bind fun b33 =>
    (fX2_known K x24.1 b33 v32).bind fun x34 =>
    tb x34 (fun q35 => some (x34.1, .inl q35)) fun v36 =>
    (gR K x34.1 x29 8 3).bind fun v38 =>
    (rcv K x34.1 (some a0) 2).bind fun b39 =>
    (fX2_number_2 K x34.1 b39 (0 : Int32) (9 : Int32)).bind fun x40 =>
    tb x40 (fun q41 => some (x40.1, .inl q41)) fun v42 =>
    (sC x40.1 v38 0 v36 v42).bind fun h44 =>
    some (h44, .inr (1 : Int32))
  else
  if a4 = 4 then
    (gR K h (some a0) 2 6).bind fun v46 =>
    (gR K h v46 1 8).bind fun v47 =>
    (rcv K h (some a0) 2).bind fun b48 =>
    (fX2_known K h b48 v47).bind fun x49 =>
    tb x49 (fun q50 => some (x49.1, .inl q50)) fun v51 =>
    (gR K x49.1 (some a0) 2 6).bind fun v53 =>
    (gI K x49.1 v53 1 1).bind fun v54 =>
    (fX0_has K x49.1 v54 v51).bind fun x55 =>
    if x55 = 0 then
      (gR K x49.1 (some a0) 2 6).bind fun v57 =>
      (gI K x49.1 v57 1 1).bind fun v58 =>
      (pV x49.1 v57 1 1 (.int (v58 ||| ((1 : Int32) <<< (v51 &&& 31))))).bind fun h59 =>
      some (h59, .inr (1 : Int32))
    else
    (gI K x49.1 (some a0) 2 3).bind fun v60 =>
    (rcv K x49.1 (some a0) 2).bind fun b61 =>
    (fX2_wrong K x49.1 b61 (3 : Int32) v60).bind fun x62 =>
    (rcv K x62.1 x62.2 3).bind fun q63 =>
    some (x62.1, .inl q63)
  else
  some (h, .inr (0 : Int32))
def fX2_told (K : KE) (h : HS) (a0 : Nat) (a1 : Option Nat) (a2 : Int32) : Option (HS × (Nat ⊕ Int32)) :=
  (rcv K h a1 20).bind fun b1 =>
  (fJ6_hashCode K h b1).bind fun x2 =>
  if x2.2 = -991716523 then
    (rcv K x2.1 a1 20).bind fun b3 =>
    (fJ6_equals K x2.1 b3 (K.2.1 12)).bind fun x4 =>
    if x4 = 0 then
      fX2_told_132 K a0 x2.1 a2 (-1 : Int32)
    else
    fX2_told_132 K a0 x2.1 a2 (2 : Int32)
  else
  if x2.2 = 3143044 then
    (rcv K x2.1 a1 20).bind fun b7 =>
    (fJ6_equals K x2.1 b7 (K.2.1 11)).bind fun x8 =>
    if x8 = 0 then
      fX2_told_132 K a0 x2.1 a2 (-1 : Int32)
    else
    fX2_told_132 K a0 x2.1 a2 (1 : Int32)
  else
  if x2.2 = 3292052 then
    (rcv K x2.1 a1 20).bind fun b11 =>
    (fJ6_equals K x2.1 b11 (K.2.1 10)).bind fun x12 =>
    if x12 = 0 then
      fX2_told_132 K a0 x2.1 a2 (-1 : Int32)
    else
    fX2_told_132 K a0 x2.1 a2 (0 : Int32)
  else
  if x2.2 = 102974396 then
    (rcv K x2.1 a1 20).bind fun b15 =>
    (fJ6_equals K x2.1 b15 (K.2.1 13)).bind fun x16 =>
    if x16 = 0 then
      fX2_told_132 K a0 x2.1 a2 (-1 : Int32)
    else
    fX2_told_132 K a0 x2.1 a2 (3 : Int32)
  else
  if x2.2 = 106931267 then
    (rcv K x2.1 a1 20).bind fun b19 =>
    (fJ6_equals K x2.1 b19 (K.2.1 14)).bind fun x20 =>
    if x20 = 0 then
      fX2_told_132 K a0 x2.1 a2 (-1 : Int32)
    else
    fX2_told_132 K a0 x2.1 a2 (4 : Int32)
  else
  fX2_told_132 K a0 x2.1 a2 (-1 : Int32)
set_option maxHeartbeats 4000000 in
theorem wX2_told_191 {p : Program} {l : Launch} {e : Env} {s : State} {m : MethodId} {args : Array Value} {below : List Frame} {meth : Method} {c : Code} {A : Nat → Prop} {D : va_G} {ac : Nat → ClassId} {K : KE} {h0 : HS} {a0 : Nat} (S : CallFix p m c cX2_told 10 s args lw_all RX2) (hr : meth.sig.returnType = some .boolean) (hlk : meth.locks = false) (hnm : meth.name = "told") (hEx : ∀ x ∈ c.exceptionTable.toList, False) (hG : GK A D ac K s) (hRM : RM K s (rmC 10 215 K h0)) {x : HS × (Nat ⊕ Int32)} : ∀ (h : HS) (a2 : Int32) (t1 : Int32), fX2_told_191 K a0 h a2 t1 = some x → cGo p l e (rmC 10 215 K h0) s m args below meth c A D ac K (vy_MQ below (tQi A D ac K x) (tX A D ac K x) args s (K.2.2.1 - h0.2.1) (K.2.2.2 - h0.2.2) A) 10 191 [(0, va_rf (some a0)), (2, .int a2)] [.int t1, va_rf (some a0)] h := by
  obtain ⟨hx, hb, hml, hown, hts⟩ := id S
  intro h a2 t1 z H locs hH hS ls hl
  unfold fX2_told_191 at z
  refine lv_iload_n hx hb dX2_told_191 rfl (lv_at hl 1 rfl) ?_
  replace z := ob z
  obtain ⟨b1, zb1, z⟩ := z
  obtain ⟨yb1, zb1⟩ := rcv_e zb1
  replace z := ob z
  obtain ⟨x2, zx2, z⟩ := z
  refine t_callv hH hS hRM (fun _ _ f1 f2 => vy_runV (b := b1) (As := [.int t1, .int a2]) (rest := []) S (metX2_most zx2) (cwV 2 hts (lw_V q587 q589 qs6 q172 q590) rfl rfl rfl (by decide +kernel) ⟨(Nat.le_of_ble_eq_true rfl), (Nat.le_of_ble_eq_true rfl)⟩) (c_preV hG hH hS (ci := 2) rfl zb1) rfl rfl hl.1 (by rw [yb1]; rfl) (lv_room (Nat.le_of_ble_eq_true rfl)) dX2_told_192 ⟨f1, f2⟩) (fun q3 H locs ce e5 hH hS g1 g2 g3 => ?_) (fun v4 H locs e5 hH hS => ?_)
  · replace z := tb_l e5 z
    exact t_prop hEx hlk hH hS g1 g2 g3 z
  replace z := tb_r e5 z
  refine c_aload_n hx hb dX2_told_195 rfl (lv_at hl 0 rfl) ?_
  replace z := ob z
  obtain ⟨v6, zv6, z⟩ := z
  obtain ⟨fsv6, yv6, zv6⟩ := gR_e zv6
  refine c_get S hG hH (ci := 2) (k := 6) rfl in_X2 (Nat.le_of_ble_eq_true rfl) q388 (fun _ y => y) yv6 zv6 dX2_told_196 ?_
  replace z := ob z
  obtain ⟨v7, zv7, z⟩ := z
  obtain ⟨fsv7, yv7, zv7⟩ := gR_e zv7
  refine c_getN S hG hH (ci := 1) (k := 6) rfl in_X1 (Nat.le_of_ble_eq_true rfl) q265 (fun _ y => y) yv7 zv7 dX2_told_199 ?_
  replace z := ob z
  obtain ⟨h8, zh8, z⟩ := z
  refine c_new S hG hH hS hRM (ci := 6) rfl in_X7 tyX7 tyX7_ok q766 q767 q185 df6_ok zh8 dX2_told_202 (fun H locs hH hS => ?_)
  refine lv_dup hx hb dX2_told_205 (ct_r _) ?_
  refine c_aload_n hx hb dX2_told_206 rfl (lv_at hl 0 rfl) ?_
  replace z := ob z
  obtain ⟨b9, zb9, z⟩ := z
  obtain ⟨yb9, zb9⟩ := rcv_e zb9
  replace z := ob z
  obtain ⟨x10, zx10, z⟩ := z
  refine t_callq hH hS hRM (fun _ _ f1 f2 => vy_runV (b := b9) (As := []) (rest := [va_rf (some x2.1.2.1), va_rf (some x2.1.2.1), va_rf v7]) S (metX2_fresh zx10) (cwV 0 hts (lw_V q768 q770 qs11 q172 q771) rfl rfl rfl (by decide +kernel) ⟨(Nat.le_of_ble_eq_true rfl), (Nat.le_of_ble_eq_true rfl)⟩) (c_preV hG hH hS (ci := 2) rfl zb9) rfl rfl hl.1 (by rw [yb9]; rfl) (lv_room (by simp [ct_r, ct_i, ct_l])) dX2_told_207 ⟨f1, f2⟩) (fun q11 H locs ce e13 hH hS g1 g2 g3 => ?_) (fun v12 H locs e13 hH hS => ?_)
  · replace z := tb_l e13 z
    exact t_prop hEx hlk hH hS g1 g2 g3 z
  replace z := tb_r e13 z
  replace z := ob z
  obtain ⟨x14, zx14, z⟩ := z
  refine c_callv hH hS hRM (fun _ _ f1 f2 => va_runI (b := x2.1.2.1) (As := [va_rf v12]) (rest := [va_rf (some x2.1.2.1), va_rf v7]) S (metX7_init_c6 zx14) (cwI 1 hts (lw_meth q822) rfl rfl rfl (hts _ q185) (hts _ q820) (hts _ q821) rfl (by decide +kernel) ⟨(Nat.le_of_ble_eq_true rfl), (Nat.le_of_ble_eq_true rfl)⟩) (c_pre hG hH hS) rfl rfl hl.1 rfl (lv_room (by simp [ct_r, ct_i, ct_l])) dX2_told_210 ⟨f1, f2⟩) (fun H locs hH hS => ?_)
  replace z := ob z
  obtain ⟨b15, zb15, z⟩ := z
  obtain ⟨yb15, zb15⟩ := rcv_e zb15
  replace z := ob z
  obtain ⟨x16, zx16, z⟩ := z
  refine c_callFi hH hS hRM (fun _ _ f1 f2 => va_runF (b := b15) (As := [va_rf (some x2.1.2.1)]) (rest := []) (hG.1.1 19 _ rfl).2 S (metJ2_add zx16) (va_cwF 1 hts (lw_app (lw_l4 q829 q832 q834 q171) (lw_meth q836)) rfl rfl rfl hG.2.2.2.2.1.2.2 (by decide +kernel) ⟨(Nat.le_of_ble_eq_true rfl), (Nat.le_of_ble_eq_true rfl)⟩) (c_preV hG hH hS (ci := 19) rfl zb15) rfl rfl hl.1 (by rw [yb15]; rfl) (lv_room (Nat.le_of_ble_eq_true rfl)) dX2_told_213 ⟨f1, f2⟩) (fun H locs hH hS => ?_)
  refine lv_pop hx hb dX2_told_218 rfl ?_
  refine lv_iconst (v := (1 : Int32)) hx hb dX2_told_219 (by decide) ?_
  exact t_iret S hr hlk rfl hH hS z dX2_told_220
set_option maxHeartbeats 4000000 in
theorem wX2_told_244 {p : Program} {l : Launch} {e : Env} {s : State} {m : MethodId} {args : Array Value} {below : List Frame} {meth : Method} {c : Code} {A : Nat → Prop} {D : va_G} {ac : Nat → ClassId} {K : KE} {h0 : HS} {a0 : Nat} (S : CallFix p m c cX2_told 10 s args lw_all RX2) (hr : meth.sig.returnType = some .boolean) (hlk : meth.locks = false) (hnm : meth.name = "told") (hEx : ∀ x ∈ c.exceptionTable.toList, False) (hG : GK A D ac K s) (hRM : RM K s (rmC 10 215 K h0)) {x : HS × (Nat ⊕ Int32)} : ∀ (h : HS) (a2 : Int32) (t1 : Int32), fX2_told_244 K a0 h a2 t1 = some x → cGo p l e (rmC 10 215 K h0) s m args below meth c A D ac K (vy_MQ below (tQi A D ac K x) (tX A D ac K x) args s (K.2.2.1 - h0.2.1) (K.2.2.2 - h0.2.2) A) 10 244 [(0, va_rf (some a0)), (2, .int a2)] [.int t1, va_rf (some a0)] h := by
  obtain ⟨hx, hb, hml, hown, hts⟩ := id S
  intro h a2 t1 z H locs hH hS ls hl
  unfold fX2_told_244 at z
  refine lv_iload_n hx hb dX2_told_244 rfl (lv_at hl 1 rfl) ?_
  replace z := ob z
  obtain ⟨b1, zb1, z⟩ := z
  obtain ⟨yb1, zb1⟩ := rcv_e zb1
  replace z := ob z
  obtain ⟨x2, zx2, z⟩ := z
  refine t_callv hH hS hRM (fun _ _ f1 f2 => vy_runV (b := b1) (As := [.int t1, .int a2]) (rest := []) S (metX2_most zx2) (cwV 2 hts (lw_V q587 q589 qs6 q172 q590) rfl rfl rfl (by decide +kernel) ⟨(Nat.le_of_ble_eq_true rfl), (Nat.le_of_ble_eq_true rfl)⟩) (c_preV hG hH hS (ci := 2) rfl zb1) rfl rfl hl.1 (by rw [yb1]; rfl) (lv_room (Nat.le_of_ble_eq_true rfl)) dX2_told_245 ⟨f1, f2⟩) (fun q3 H locs ce e5 hH hS g1 g2 g3 => ?_) (fun v4 H locs e5 hH hS => ?_)
  · replace z := tb_l e5 z
    exact t_prop hEx hlk hH hS g1 g2 g3 z
  replace z := tb_r e5 z
  refine c_aload_n hx hb dX2_told_248 rfl (lv_at hl 0 rfl) ?_
  replace z := ob z
  obtain ⟨b6, zb6, z⟩ := z
  obtain ⟨yb6, zb6⟩ := rcv_e zb6
  replace z := ob z
  obtain ⟨x7, zx7, z⟩ := z
  refine t_callv hH hS hRM (fun _ _ f1 f2 => vy_runV (b := b6) (As := []) (rest := []) S (metX2_film zx7) (cwV 0 hts (lw_V q904 q906 qs16 q172 q907) rfl rfl rfl (by decide +kernel) ⟨(Nat.le_of_ble_eq_true rfl), (Nat.le_of_ble_eq_true rfl)⟩) (c_preV hG hH hS (ci := 2) rfl zb6) rfl rfl hl.1 (by rw [yb6]; rfl) (lv_room (Nat.le_of_ble_eq_true rfl)) dX2_told_249 ⟨f1, f2⟩) (fun q8 H locs ce e10 hH hS g1 g2 g3 => ?_) (fun v9 H locs e10 hH hS => ?_)
  · replace z := tb_l e10 z
    exact t_prop hEx hlk hH hS g1 g2 g3 z
  replace z := tb_r e10 z
  refine lv_iconst (v := (1 : Int32)) hx hb dX2_told_252 (by decide) ?_
  exact t_iret S hr hlk rfl hH hS z dX2_told_253
set_option maxHeartbeats 4000000 in
theorem wX2_told_276 {p : Program} {l : Launch} {e : Env} {s : State} {m : MethodId} {args : Array Value} {below : List Frame} {meth : Method} {c : Code} {A : Nat → Prop} {D : va_G} {ac : Nat → ClassId} {K : KE} {h0 : HS} {a0 : Nat} (S : CallFix p m c cX2_told 10 s args lw_all RX2) (hr : meth.sig.returnType = some .boolean) (hlk : meth.locks = false) (hnm : meth.name = "told") (hEx : ∀ x ∈ c.exceptionTable.toList, False) (hG : GK A D ac K s) (hRM : RM K s (rmC 10 215 K h0)) {x : HS × (Nat ⊕ Int32)} : ∀ (h : HS) (a2 : Int32) (t1 : Int32), fX2_told_276 K a0 h a2 t1 = some x → cGo p l e (rmC 10 215 K h0) s m args below meth c A D ac K (vy_MQ below (tQi A D ac K x) (tX A D ac K x) args s (K.2.2.1 - h0.2.1) (K.2.2.2 - h0.2.2) A) 10 276 [(0, va_rf (some a0)), (2, .int a2)] [.int t1, va_rf (some a0)] h := by
  obtain ⟨hx, hb, hml, hown, hts⟩ := id S
  intro h a2 t1 z H locs hH hS ls hl
  unfold fX2_told_276 at z
  refine lv_iload_n hx hb dX2_told_276 rfl (lv_at hl 1 rfl) ?_
  replace z := ob z
  obtain ⟨b1, zb1, z⟩ := z
  obtain ⟨yb1, zb1⟩ := rcv_e zb1
  replace z := ob z
  obtain ⟨x2, zx2, z⟩ := z
  refine t_callv hH hS hRM (fun _ _ f1 f2 => vy_runV (b := b1) (As := [.int t1, .int a2]) (rest := []) S (metX2_most zx2) (cwV 2 hts (lw_V q587 q589 qs6 q172 q590) rfl rfl rfl (by decide +kernel) ⟨(Nat.le_of_ble_eq_true rfl), (Nat.le_of_ble_eq_true rfl)⟩) (c_preV hG hH hS (ci := 2) rfl zb1) rfl rfl hl.1 (by rw [yb1]; rfl) (lv_room (Nat.le_of_ble_eq_true rfl)) dX2_told_277 ⟨f1, f2⟩) (fun q3 H locs ce e5 hH hS g1 g2 g3 => ?_) (fun v4 H locs e5 hH hS => ?_)
  · replace z := tb_l e5 z
    exact t_prop hEx hlk hH hS g1 g2 g3 z
  replace z := tb_r e5 z
  refine c_aload_n hx hb dX2_told_280 rfl (lv_at hl 0 rfl) ?_
  replace z := ob z
  obtain ⟨b6, zb6, z⟩ := z
  obtain ⟨yb6, zb6⟩ := rcv_e zb6
  replace z := ob z
  obtain ⟨x7, zx7, z⟩ := z
  refine t_callq hH hS hRM (fun _ _ f1 f2 => vy_runV (b := b6) (As := []) (rest := []) S (metX2_fresh zx7) (cwV 0 hts (lw_V q768 q770 qs11 q172 q771) rfl rfl rfl (by decide +kernel) ⟨(Nat.le_of_ble_eq_true rfl), (Nat.le_of_ble_eq_true rfl)⟩) (c_preV hG hH hS (ci := 2) rfl zb6) rfl rfl hl.1 (by rw [yb6]; rfl) (lv_room (Nat.le_of_ble_eq_true rfl)) dX2_told_281 ⟨f1, f2⟩) (fun q8 H locs ce e10 hH hS g1 g2 g3 => ?_) (fun v9 H locs e10 hH hS => ?_)
  · replace z := tb_l e10 z
    exact t_prop hEx hlk hH hS g1 g2 g3 z
  replace z := tb_r e10 z
  refine c_astore (lv' := [(5, va_rf v9), (0, va_rf (some a0)), (2, .int a2)]) hx hb dX2_told_284 hl (by decide) rfl (fun ls hl => ?_)
  refine c_aload_n hx hb dX2_told_286 rfl (lv_at hl 1 rfl) ?_
  refine c_ldcS S hG (i := 15) (tx := "at") (List.mem_of_getElem? (i := 5) rfl) dX2_told_287 ?_
  refine lv_iconst (v := (0 : Int32)) hx hb dX2_told_289 (by decide) ?_
  refine lv_bipush (v := (23 : Int32)) hx hb dX2_told_290 (by decide) ?_
  replace z := ob z
  obtain ⟨b11, zb11, z⟩ := z
  obtain ⟨yb11, zb11⟩ := rcv_e zb11
  replace z := ob z
  obtain ⟨x12, zx12, z⟩ := z
  refine t_calli hH hS hRM (fun _ _ f1 f2 => vy_runV (b := b11) (As := [va_rf (K.2.1 15), .int (0 : Int32), .int (23 : Int32)]) (rest := []) S (metX2_number zx12) (cwV 3 hts (lw_V q911 q913 qs17 q172 q914) rfl rfl rfl (by decide +kernel) ⟨(Nat.le_of_ble_eq_true rfl), (Nat.le_of_ble_eq_true rfl)⟩) (c_preV hG hH hS (ci := 2) rfl zb11) rfl rfl hl.1 (by rw [yb11]; rfl) (lv_room (Nat.le_of_ble_eq_true rfl)) dX2_told_292 ⟨f1, f2⟩) (fun q13 H locs ce e15 hH hS g1 g2 g3 => ?_) (fun v14 H locs e15 hH hS => ?_)
  · replace z := tb_l e15 z
    exact t_prop hEx hlk hH hS g1 g2 g3 z
  replace z := tb_r e15 z
  refine lv_istore (lv' := [(6, .int v14), (5, va_rf v9), (0, va_rf (some a0)), (2, .int a2)]) hx hb dX2_told_295 hl (by decide) (by simp [List.filter, ct_r, ct_i, ct_l]) (fun ls hl => ?_)
  refine c_aload_n hx hb dX2_told_297 rfl (lv_at hl 2 rfl) ?_
  replace z := ob z
  obtain ⟨v16, zv16, z⟩ := z
  obtain ⟨fsv16, yv16, zv16⟩ := gR_e zv16
  refine c_get S hG hH (ci := 2) (k := 6) rfl in_X2 (Nat.le_of_ble_eq_true rfl) q388 (fun _ y => y) yv16 zv16 dX2_told_298 ?_
  replace z := ob z
  obtain ⟨v17, zv17, z⟩ := z
  obtain ⟨fsv17, yv17, zv17⟩ := gR_e zv17
  refine c_getN S hG hH (ci := 1) (k := 8) rfl in_X1 (Nat.le_of_ble_eq_true rfl) q271 (fun _ y => y) yv17 zv17 dX2_told_301 ?_
  replace z := ob z
  obtain ⟨h18, zh18, z⟩ := z
  refine c_new S hG hH hS hRM (ci := 8) rfl in_X9 tyX9 tyX9_ok q950 q951 q191 df8_ok zh18 dX2_told_304 (fun H locs hH hS => ?_)
  refine lv_dup hx hb dX2_told_307 (ct_r _) ?_
  refine c_aload hx hb dX2_told_308 (lv_at hl 1 rfl) ?_
  refine lv_iload hx hb dX2_told_310 (lv_at hl 0 rfl) ?_
  refine c_aload_n hx hb dX2_told_312 rfl (lv_at hl 2 rfl) ?_
  refine c_ldcS S hG (i := 16) (tx := "to") (List.mem_of_getElem? (i := 6) rfl) dX2_told_313 ?_
  refine lv_iload hx hb dX2_told_315 (lv_at hl 0 rfl) ?_
  refine lv_bipush (v := (23 : Int32)) hx hb dX2_told_317 (by decide) ?_
  replace z := ob z
  obtain ⟨b19, zb19, z⟩ := z
  obtain ⟨yb19, zb19⟩ := rcv_e zb19
  replace z := ob z
  obtain ⟨x20, zx20, z⟩ := z
  refine t_calli hH hS hRM (fun _ _ f1 f2 => vy_runV (b := b19) (As := [va_rf (K.2.1 16), .int v14, .int (23 : Int32)]) (rest := [.int v14, va_rf v9, va_rf (some x12.1.2.1), va_rf (some x12.1.2.1), va_rf v17]) S (metX2_number zx20) (cwV 3 hts (lw_V q911 q913 qs17 q172 q914) rfl rfl rfl (by decide +kernel) ⟨(Nat.le_of_ble_eq_true rfl), (Nat.le_of_ble_eq_true rfl)⟩) (c_preV hG hH hS (ci := 2) rfl zb19) rfl rfl hl.1 (by rw [yb19]; rfl) (lv_room (by simp [ct_r, ct_i, ct_l])) dX2_told_319 ⟨f1, f2⟩) (fun q21 H locs ce e23 hH hS g1 g2 g3 => ?_) (fun v22 H locs e23 hH hS => ?_)
  · replace z := tb_l e23 z
    exact t_prop hEx hlk hH hS g1 g2 g3 z
  replace z := tb_r e23 z
  replace z := ob z
  obtain ⟨x24, zx24, z⟩ := z
  refine c_callv hH hS hRM (fun _ _ f1 f2 => va_runI (b := x12.1.2.1) (As := [va_rf v9, .int v14, .int v22]) (rest := [va_rf (some x12.1.2.1), va_rf v17]) S (metX9_init zx24) (cwI 3 hts (lw_meth q955) rfl rfl rfl (hts _ q191) (hts _ q953) (hts _ q954) rfl (by decide +kernel) ⟨(Nat.le_of_ble_eq_true rfl), (Nat.le_of_ble_eq_true rfl)⟩) (c_pre hG hH hS) rfl rfl hl.1 rfl (lv_room (by simp [ct_r, ct_i, ct_l])) dX2_told_322 ⟨f1, f2⟩) (fun H locs hH hS => ?_)
  replace z := ob z
  obtain ⟨b25, zb25, z⟩ := z
  obtain ⟨yb25, zb25⟩ := rcv_e zb25
  replace z := ob z
  obtain ⟨x26, zx26, z⟩ := z
  refine c_callFi hH hS hRM (fun _ _ f1 f2 => va_runF (b := b25) (As := [va_rf (some x12.1.2.1)]) (rest := []) (hG.1.1 19 _ rfl).2 S (metJ2_add zx26) (va_cwF 1 hts (lw_app (lw_l4 q829 q832 q834 q171) (lw_meth q836)) rfl rfl rfl hG.2.2.2.2.1.2.2 (by decide +kernel) ⟨(Nat.le_of_ble_eq_true rfl), (Nat.le_of_ble_eq_true rfl)⟩) (c_preV hG hH hS (ci := 19) rfl zb25) rfl rfl hl.1 (by rw [yb25]; rfl) (lv_room (Nat.le_of_ble_eq_true rfl)) dX2_told_325 ⟨f1, f2⟩) (fun H locs hH hS => ?_)
  refine lv_pop hx hb dX2_told_330 rfl ?_
  refine lv_iconst (v := (1 : Int32)) hx hb dX2_told_331 (by decide) ?_
  exact t_iret S hr hlk rfl hH hS z dX2_told_332
set_option maxHeartbeats 4000000 in
theorem wX2_told_132 {p : Program} {l : Launch} {e : Env} {s : State} {m : MethodId} {args : Array Value} {below : List Frame} {meth : Method} {c : Code} {A : Nat → Prop} {D : va_G} {ac : Nat → ClassId} {K : KE} {h0 : HS} {a0 : Nat} (S : CallFix p m c cX2_told 10 s args lw_all RX2) (hr : meth.sig.returnType = some .boolean) (hlk : meth.locks = false) (hnm : meth.name = "told") (hEx : ∀ x ∈ c.exceptionTable.toList, False) (hG : GK A D ac K s) (hRM : RM K s (rmC 10 215 K h0)) {x : HS × (Nat ⊕ Int32)} : ∀ (h : HS) (a2 : Int32) (a4 : Int32), fX2_told_132 K a0 h a2 a4 = some x → cGo p l e (rmC 10 215 K h0) s m args below meth c A D ac K (vy_MQ below (tQi A D ac K x) (tX A D ac K x) args s (K.2.2.1 - h0.2.1) (K.2.2.2 - h0.2.2) A) 10 132 [(0, va_rf (some a0)), (2, .int a2), (4, .int a4)] [] h := by
  obtain ⟨hx, hb, hml, hown, hts⟩ := id S
  intro h a2 a4 z H locs hH hS ls hl
  unfold fX2_told_132 at z
  refine lv_iload hx hb dX2_told_132 (lv_at hl 2 rfl) ?_
  by_cases c6 : a4 = 0
  · replace z := it c6 z
    refine lv_tableIn (off := 34) (tgt := 168) hx hb dX2_told_134 (by rw [c6]; decide) (by rw [c6]; decide) (by rw [c6]; rfl) (by decide) ?_
    refine c_aload_n hx hb dX2_told_168 rfl (lv_at hl 0 rfl) ?_
    refine c_aload_n hx hb dX2_told_169 rfl (lv_at hl 0 rfl) ?_
    replace z := ob z
    obtain ⟨v1, zv1, z⟩ := z
    obtain ⟨fsv1, yv1, zv1⟩ := gR_e zv1
    refine c_get S hG hH (ci := 2) (k := 6) rfl in_X2 (Nat.le_of_ble_eq_true rfl) q388 (fun _ y => y) yv1 zv1 dX2_told_170 ?_
    replace z := ob z
    obtain ⟨v2, zv2, z⟩ := z
    obtain ⟨fsv2, yv2, zv2⟩ := gR_e zv2
    refine c_getN S hG hH (ci := 1) (k := 6) rfl in_X1 (Nat.le_of_ble_eq_true rfl) q265 (fun _ y => y) yv2 zv2 dX2_told_173 ?_
    replace z := ob z
    obtain ⟨b3, zb3, z⟩ := z
    obtain ⟨yb3, zb3⟩ := rcv_e zb3
    replace z := ob z
    obtain ⟨x4, zx4, z⟩ := z
    refine c_callFi hH hS hRM (fun _ _ f1 f2 => va_runF (b := b3) (As := []) (rest := [va_rf (some a0)]) (hG.1.1 19 _ rfl).2 S (metJ2_size zx4) (va_cwF 0 hts (lw_app (lw_l4 q757 q761 q763 q171) (lw_meth q765)) rfl rfl rfl hG.2.2.2.2.1.1 (by decide +kernel) ⟨(Nat.le_of_ble_eq_true rfl), (Nat.le_of_ble_eq_true rfl)⟩) (c_preV hG hH hS (ci := 19) rfl zb3) rfl rfl hl.1 (by rw [yb3]; rfl) (lv_room (Nat.le_of_ble_eq_true rfl)) dX2_told_176 ⟨f1, f2⟩) (fun H locs hH hS => ?_)
    refine lv_bipush (v := (6 : Int32)) hx hb dX2_told_181 (by decide) ?_
    refine lv_icmp_ne (tgt := 190) hx hb dX2_told_183 (by decide) (fun c5 => ?_) (fun c5 => ?_)
    · replace z := ie c5 z
      refine lv_iconst (v := (0 : Int32)) hx hb dX2_told_190 (by decide) ?_
      exact wX2_told_191 S hr hlk hnm hEx hG hRM h a2 (0 : Int32) z _ _ hH hS _ (lv_sub hl [0, 1] rfl)
    replace z := it c5 z
    refine lv_iconst (v := (1 : Int32)) hx hb dX2_told_186 (by decide) ?_
    refine lv_goto (tgt := 191) hx hb dX2_told_187 (by decide) ?_
    exact wX2_told_191 S hr hlk hnm hEx hG hRM h a2 (1 : Int32) z _ _ hH hS _ (lv_sub hl [0, 1] rfl)
  replace z := ie c6 z
  by_cases c12 : a4 = 1
  · replace z := it c12 z
    refine lv_tableIn (off := 87) (tgt := 221) hx hb dX2_told_134 (by rw [c12]; decide) (by rw [c12]; decide) (by rw [c12]; rfl) (by decide) ?_
    refine c_aload_n hx hb dX2_told_221 rfl (lv_at hl 0 rfl) ?_
    refine c_aload_n hx hb dX2_told_222 rfl (lv_at hl 0 rfl) ?_
    replace z := ob z
    obtain ⟨v7, zv7, z⟩ := z
    obtain ⟨fsv7, yv7, zv7⟩ := gR_e zv7
    refine c_get S hG hH (ci := 2) (k := 6) rfl in_X2 (Nat.le_of_ble_eq_true rfl) q388 (fun _ y => y) yv7 zv7 dX2_told_223 ?_
    replace z := ob z
    obtain ⟨v8, zv8, z⟩ := z
    obtain ⟨fsv8, yv8, zv8⟩ := gR_e zv8
    refine c_getN S hG hH (ci := 1) (k := 7) rfl in_X1 (Nat.le_of_ble_eq_true rfl) q268 (fun _ y => y) yv8 zv8 dX2_told_226 ?_
    replace z := ob z
    obtain ⟨b9, zb9, z⟩ := z
    obtain ⟨yb9, zb9⟩ := rcv_e zb9
    replace z := ob z
    obtain ⟨x10, zx10, z⟩ := z
    refine c_callFi hH hS hRM (fun _ _ f1 f2 => va_runF (b := b9) (As := []) (rest := [va_rf (some a0)]) (hG.1.1 19 _ rfl).2 S (metJ2_size zx10) (va_cwF 0 hts (lw_app (lw_l4 q757 q761 q763 q171) (lw_meth q765)) rfl rfl rfl hG.2.2.2.2.1.1 (by decide +kernel) ⟨(Nat.le_of_ble_eq_true rfl), (Nat.le_of_ble_eq_true rfl)⟩) (c_preV hG hH hS (ci := 19) rfl zb9) rfl rfl hl.1 (by rw [yb9]; rfl) (lv_room (Nat.le_of_ble_eq_true rfl)) dX2_told_229 ⟨f1, f2⟩) (fun H locs hH hS => ?_)
    refine lv_bipush (v := (8 : Int32)) hx hb dX2_told_234 (by decide) ?_
    refine lv_icmp_ne (tgt := 243) hx hb dX2_told_236 (by decide) (fun c11 => ?_) (fun c11 => ?_)
    · replace z := ie c11 z
      refine lv_iconst (v := (0 : Int32)) hx hb dX2_told_243 (by decide) ?_
      exact wX2_told_244 S hr hlk hnm hEx hG hRM h a2 (0 : Int32) z _ _ hH hS _ (lv_sub hl [0, 1] rfl)
    replace z := it c11 z
    refine lv_iconst (v := (1 : Int32)) hx hb dX2_told_239 (by decide) ?_
    refine lv_goto (tgt := 244) hx hb dX2_told_240 (by decide) ?_
    exact wX2_told_244 S hr hlk hnm hEx hG hRM h a2 (1 : Int32) z _ _ hH hS _ (lv_sub hl [0, 1] rfl)
  replace z := ie c12 z
  by_cases c18 : a4 = 2
  · replace z := it c18 z
    refine lv_tableIn (off := 120) (tgt := 254) hx hb dX2_told_134 (by rw [c18]; decide) (by rw [c18]; decide) (by rw [c18]; rfl) (by decide) ?_
    refine c_aload_n hx hb dX2_told_254 rfl (lv_at hl 0 rfl) ?_
    refine c_aload_n hx hb dX2_told_255 rfl (lv_at hl 0 rfl) ?_
    replace z := ob z
    obtain ⟨v13, zv13, z⟩ := z
    obtain ⟨fsv13, yv13, zv13⟩ := gR_e zv13
    refine c_get S hG hH (ci := 2) (k := 6) rfl in_X2 (Nat.le_of_ble_eq_true rfl) q388 (fun _ y => y) yv13 zv13 dX2_told_256 ?_
    replace z := ob z
    obtain ⟨v14, zv14, z⟩ := z
    obtain ⟨fsv14, yv14, zv14⟩ := gR_e zv14
    refine c_getN S hG hH (ci := 1) (k := 8) rfl in_X1 (Nat.le_of_ble_eq_true rfl) q271 (fun _ y => y) yv14 zv14 dX2_told_259 ?_
    replace z := ob z
    obtain ⟨b15, zb15, z⟩ := z
    obtain ⟨yb15, zb15⟩ := rcv_e zb15
    replace z := ob z
    obtain ⟨x16, zx16, z⟩ := z
    refine c_callFi hH hS hRM (fun _ _ f1 f2 => va_runF (b := b15) (As := []) (rest := [va_rf (some a0)]) (hG.1.1 19 _ rfl).2 S (metJ2_size zx16) (va_cwF 0 hts (lw_app (lw_l4 q757 q761 q763 q171) (lw_meth q765)) rfl rfl rfl hG.2.2.2.2.1.1 (by decide +kernel) ⟨(Nat.le_of_ble_eq_true rfl), (Nat.le_of_ble_eq_true rfl)⟩) (c_preV hG hH hS (ci := 19) rfl zb15) rfl rfl hl.1 (by rw [yb15]; rfl) (lv_room (Nat.le_of_ble_eq_true rfl)) dX2_told_262 ⟨f1, f2⟩) (fun H locs hH hS => ?_)
    refine lv_iconst (v := (5 : Int32)) hx hb dX2_told_267 (by decide) ?_
    refine lv_icmp_ne (tgt := 275) hx hb dX2_told_268 (by decide) (fun c17 => ?_) (fun c17 => ?_)
    · replace z := ie c17 z
      refine lv_iconst (v := (0 : Int32)) hx hb dX2_told_275 (by decide) ?_
      exact wX2_told_276 S hr hlk hnm hEx hG hRM h a2 (0 : Int32) z _ _ hH hS _ (lv_sub hl [0, 1] rfl)
    replace z := it c17 z
    refine lv_iconst (v := (1 : Int32)) hx hb dX2_told_271 (by decide) ?_
    refine lv_goto (tgt := 276) hx hb dX2_told_272 (by decide) ?_
    exact wX2_told_276 S hr hlk hnm hEx hG hRM h a2 (1 : Int32) z _ _ hH hS _ (lv_sub hl [0, 1] rfl)
  replace z := ie c18 z
  by_cases c45 : a4 = 3
  · replace z := it c45 z
    refine lv_tableIn (off := 199) (tgt := 333) hx hb dX2_told_134 (by rw [c45]; decide) (by rw [c45]; decide) (by rw [c45]; rfl) (by decide) ?_
    refine c_aload_n hx hb dX2_told_333 rfl (lv_at hl 0 rfl) ?_
    replace z := ob z
    obtain ⟨v19, zv19, z⟩ := z
    obtain ⟨fsv19, yv19, zv19⟩ := gR_e zv19
    refine c_get S hG hH (ci := 2) (k := 6) rfl in_X2 (Nat.le_of_ble_eq_true rfl) q388 (fun _ y => y) yv19 zv19 dX2_told_334 ?_
    replace z := ob z
    obtain ⟨v20, zv20, z⟩ := z
    obtain ⟨fsv20, yv20, zv20⟩ := gR_e zv20
    refine c_getN S hG hH (ci := 1) (k := 8) rfl in_X1 (Nat.le_of_ble_eq_true rfl) q271 (fun _ y => y) yv20 zv20 dX2_told_337 ?_
    refine c_aload_n hx hb dX2_told_340 rfl (lv_at hl 0 rfl) ?_
    refine c_aload_n hx hb dX2_told_341 rfl (lv_at hl 0 rfl) ?_
    replace z := ob z
    obtain ⟨v21, zv21, z⟩ := z
    obtain ⟨fsv21, yv21, zv21⟩ := gR_e zv21
    refine c_get S hG hH (ci := 2) (k := 6) rfl in_X2 (Nat.le_of_ble_eq_true rfl) q388 (fun _ y => y) yv21 zv21 dX2_told_342 ?_
    replace z := ob z
    obtain ⟨v22, zv22, z⟩ := z
    obtain ⟨fsv22, yv22, zv22⟩ := gR_e zv22
    refine c_getN S hG hH (ci := 1) (k := 8) rfl in_X1 (Nat.le_of_ble_eq_true rfl) q271 (fun _ y => y) yv22 zv22 dX2_told_345 ?_
    replace z := ob z
    obtain ⟨b23, zb23, z⟩ := z
    obtain ⟨yb23, zb23⟩ := rcv_e zb23
    replace z := ob z
    obtain ⟨x24, zx24, z⟩ := z
    refine t_calli hH hS hRM (fun _ _ f1 f2 => vy_runV (b := b23) (As := [va_rf v22]) (rest := [va_rf v20]) S (metX2_known zx24) (cwV 1 hts (lw_V q944 q946 qs20 q172 q947) rfl rfl rfl (by decide +kernel) ⟨(Nat.le_of_ble_eq_true rfl), (Nat.le_of_ble_eq_true rfl)⟩) (c_preV hG hH hS (ci := 2) rfl zb23) rfl rfl hl.1 (by rw [yb23]; rfl) (lv_room (by simp [ct_r, ct_i, ct_l])) dX2_told_348 ⟨f1, f2⟩) (fun q25 H locs ce e27 hH hS g1 g2 g3 => ?_) (fun v26 H locs e27 hH hS => ?_)
    · replace z := tb_l e27 z
      exact t_prop hEx hlk hH hS g1 g2 g3 z
    replace z := tb_r e27 z
    replace z := ob z
    obtain ⟨b28, zb28, z⟩ := z
    obtain ⟨yb28, zb28⟩ := rcv_e zb28
    replace z := ob z
    obtain ⟨x29, zx29, z⟩ := z
    refine c_callFq hH hS hRM (fun _ _ f1 f2 => va_runF (b := b28) (As := [.int v26]) (rest := []) (hG.1.1 19 _ rfl).2 S (metJ2_get zx29) (va_cwF 1 hts (lw_app (lw_l4 q973 q803 q805 q171) (lw_meth q807)) rfl rfl rfl hG.2.2.2.2.1.2.1 (by decide +kernel) ⟨(Nat.le_of_ble_eq_true rfl), (Nat.le_of_ble_eq_true rfl)⟩) (c_preV hG hH hS (ci := 19) rfl zb28) rfl rfl hl.1 (by rw [yb28]; rfl) (lv_room (Nat.le_of_ble_eq_true rfl)) dX2_told_351 ⟨f1, f2⟩) (fun H locs hH hS => ?_)
    replace z := ob z
    obtain ⟨u30, zu30, z⟩ := z
    refine c_castL S hG hH q950 [8] cast_Person zu30 dX2_told_356 ?_
    refine c_astore (lv' := [(7, va_rf x29), (0, va_rf (some a0)), (2, .int a2), (4, .int a4)]) hx hb dX2_told_359 hl (by decide) rfl (fun ls hl => ?_)
    refine c_aload_n hx hb dX2_told_361 rfl (lv_at hl 1 rfl) ?_
    refine c_aload_n hx hb dX2_told_362 rfl (lv_at hl 1 rfl) ?_
    replace z := ob z
    obtain ⟨v31, zv31, z⟩ := z
    obtain ⟨fsv31, yv31, zv31⟩ := gR_e zv31
    refine c_get S hG hH (ci := 2) (k := 6) rfl in_X2 (Nat.le_of_ble_eq_true rfl) q388 (fun _ y => y) yv31 zv31 dX2_told_363 ?_
    replace z := ob z
    obtain ⟨v32, zv32, z⟩ := z
    obtain ⟨fsv32, yv32, zv32⟩ := gR_e zv32
    refine c_getN S hG hH (ci := 1) (k := 6) rfl in_X1 (Nat.le_of_ble_eq_true rfl) q265 (fun _ y => y) yv32 zv32 dX2_told_366 ?_
    replace z := ob z
    obtain ⟨b33, zb33, z⟩ := z
    obtain ⟨yb33, zb33⟩ := rcv_e zb33
    replace z := ob z
    obtain ⟨x34, zx34, z⟩ := z
    refine t_calli hH hS hRM (fun _ _ f1 f2 => vy_runV (b := b33) (As := [va_rf v32]) (rest := []) S (metX2_known zx34) (cwV 1 hts (lw_V q944 q946 qs20 q172 q947) rfl rfl rfl (by decide +kernel) ⟨(Nat.le_of_ble_eq_true rfl), (Nat.le_of_ble_eq_true rfl)⟩) (c_preV hG hH hS (ci := 2) rfl zb33) rfl rfl hl.1 (by rw [yb33]; rfl) (lv_room (Nat.le_of_ble_eq_true rfl)) dX2_told_369 ⟨f1, f2⟩) (fun q35 H locs ce e37 hH hS g1 g2 g3 => ?_) (fun v36 H locs e37 hH hS => ?_)
    · replace z := tb_l e37 z
      exact t_prop hEx hlk hH hS g1 g2 g3 z
    replace z := tb_r e37 z
    refine lv_istore (lv' := [(8, .int v36), (7, va_rf x29), (0, va_rf (some a0)), (2, .int a2), (4, .int a4)]) hx hb dX2_told_372 hl (by decide) (by simp [List.filter, ct_r, ct_i, ct_l]) (fun ls hl => ?_)
    refine c_aload hx hb dX2_told_374 (lv_at hl 1 rfl) ?_
    replace z := ob z
    obtain ⟨v38, zv38, z⟩ := z
    obtain ⟨fsv38, yv38, zv38⟩ := gR_e zv38
    refine c_getN S hG hH (ci := 8) (k := 3) rfl in_X9 (Nat.le_of_ble_eq_true rfl) q962 (fun _ y => y) yv38 zv38 dX2_told_376 ?_
    refine lv_iload hx hb dX2_told_379 (lv_at hl 0 rfl) ?_
    refine c_aload_n hx hb dX2_told_381 rfl (lv_at hl 2 rfl) ?_
    refine lv_iconst (v := (0 : Int32)) hx hb dX2_told_382 (by decide) ?_
    refine lv_bipush (v := (9 : Int32)) hx hb dX2_told_383 (by decide) ?_
    replace z := ob z
    obtain ⟨b39, zb39, z⟩ := z
    obtain ⟨yb39, zb39⟩ := rcv_e zb39
    replace z := ob z
    obtain ⟨x40, zx40, z⟩ := z
    refine t_calli hH hS hRM (fun _ _ f1 f2 => vy_runV (b := b39) (As := [.int (0 : Int32), .int (9 : Int32)]) (rest := [.int v36, va_rf v38]) S (metX2_number_2 zx40) (cwV 2 hts (lw_V q919 q921 qs19 q172 q922) rfl rfl rfl (by decide +kernel) ⟨(Nat.le_of_ble_eq_true rfl), (Nat.le_of_ble_eq_true rfl)⟩) (c_preV hG hH hS (ci := 2) rfl zb39) rfl rfl hl.1 (by rw [yb39]; rfl) (lv_room (by simp [ct_r, ct_i, ct_l])) dX2_told_385 ⟨f1, f2⟩) (fun q41 H locs ce e43 hH hS g1 g2 g3 => ?_) (fun v42 H locs e43 hH hS => ?_)
    · replace z := tb_l e43 z
      exact t_prop hEx hlk hH hS g1 g2 g3 z
    replace z := tb_r e43 z
    replace z := ob z
    obtain ⟨h44, zh44, z⟩ := z
    refine c_iast S hG hH hS zh44 dX2_told_388 (fun H locs hH hS => ?_)
    refine lv_iconst (v := (1 : Int32)) hx hb dX2_told_389 (by decide) ?_
    exact t_iret S hr hlk rfl hH hS z dX2_told_390
  replace z := ie c45 z
  by_cases c64 : a4 = 4
  · replace z := it c64 z
    refine lv_tableIn (off := 257) (tgt := 391) hx hb dX2_told_134 (by rw [c64]; decide) (by rw [c64]; decide) (by rw [c64]; rfl) (by decide) ?_
    refine c_aload_n hx hb dX2_told_391 rfl (lv_at hl 0 rfl) ?_
    refine c_aload_n hx hb dX2_told_392 rfl (lv_at hl 0 rfl) ?_
    replace z := ob z
    obtain ⟨v46, zv46, z⟩ := z
    obtain ⟨fsv46, yv46, zv46⟩ := gR_e zv46
    refine c_get S hG hH (ci := 2) (k := 6) rfl in_X2 (Nat.le_of_ble_eq_true rfl) q388 (fun _ y => y) yv46 zv46 dX2_told_393 ?_
    replace z := ob z
    obtain ⟨v47, zv47, z⟩ := z
    obtain ⟨fsv47, yv47, zv47⟩ := gR_e zv47
    refine c_getN S hG hH (ci := 1) (k := 8) rfl in_X1 (Nat.le_of_ble_eq_true rfl) q271 (fun _ y => y) yv47 zv47 dX2_told_396 ?_
    replace z := ob z
    obtain ⟨b48, zb48, z⟩ := z
    obtain ⟨yb48, zb48⟩ := rcv_e zb48
    replace z := ob z
    obtain ⟨x49, zx49, z⟩ := z
    refine t_calli hH hS hRM (fun _ _ f1 f2 => vy_runV (b := b48) (As := [va_rf v47]) (rest := []) S (metX2_known zx49) (cwV 1 hts (lw_V q944 q946 qs20 q172 q947) rfl rfl rfl (by decide +kernel) ⟨(Nat.le_of_ble_eq_true rfl), (Nat.le_of_ble_eq_true rfl)⟩) (c_preV hG hH hS (ci := 2) rfl zb48) rfl rfl hl.1 (by rw [yb48]; rfl) (lv_room (Nat.le_of_ble_eq_true rfl)) dX2_told_399 ⟨f1, f2⟩) (fun q50 H locs ce e52 hH hS g1 g2 g3 => ?_) (fun v51 H locs e52 hH hS => ?_)
    · replace z := tb_l e52 z
      exact t_prop hEx hlk hH hS g1 g2 g3 z
    replace z := tb_r e52 z
    refine lv_istore (lv' := [(9, .int v51), (0, va_rf (some a0)), (2, .int a2), (4, .int a4)]) hx hb dX2_told_402 hl (by decide) rfl (fun ls hl => ?_)
    refine c_aload_n hx hb dX2_told_404 rfl (lv_at hl 1 rfl) ?_
    replace z := ob z
    obtain ⟨v53, zv53, z⟩ := z
    obtain ⟨fsv53, yv53, zv53⟩ := gR_e zv53
    refine c_get S hG hH (ci := 2) (k := 6) rfl in_X2 (Nat.le_of_ble_eq_true rfl) q388 (fun _ y => y) yv53 zv53 dX2_told_405 ?_
    replace z := ob z
    obtain ⟨v54, zv54, z⟩ := z
    obtain ⟨fsv54, yv54, zv54⟩ := gI_e zv54
    refine c_getN S hG hH (ci := 1) (k := 1) rfl in_X1 (Nat.le_of_ble_eq_true rfl) q252 (fun _ y => y) yv54 zv54 dX2_told_408 ?_
    refine lv_iload hx hb dX2_told_411 (lv_at hl 0 rfl) ?_
    replace z := ob z
    obtain ⟨x55, zx55, z⟩ := z
    refine c_calli hH hS hRM (fun _ _ f1 f2 => va_runSN (As := [.int v54, .int v51]) (rest := []) S (metX0_has zx55) ⟨va_cnB 2 hts (lw_meth q976) rfl rfl rfl (hG.2.1.2.1 _ _ _ _ q974) (hts _ q167) (by decide +kernel) ⟨(Nat.le_of_ble_eq_true rfl), (Nat.le_of_ble_eq_true rfl)⟩, hts _ q975, trivial⟩ (c_pre hG hH hS) rfl rfl hl.1 rfl (lv_room (Nat.le_of_ble_eq_true rfl)) dX2_told_413 ⟨f1, f2⟩) (fun H locs hH hS => ?_)
    refine lv_if_eq (tgt := 429) hx hb dX2_told_416 (by decide) (fun c56 => ?_) (fun c56 => ?_)
    rotate_left 1
    · replace z := ie c56 z
      refine c_aload_n hx hb dX2_told_419 rfl (lv_at hl 1 rfl) ?_
      refine lv_iconst (v := (3 : Int32)) hx hb dX2_told_420 (by decide) ?_
      refine c_aload_n hx hb dX2_told_421 rfl (lv_at hl 1 rfl) ?_
      replace z := ob z
      obtain ⟨v60, zv60, z⟩ := z
      obtain ⟨fsv60, yv60, zv60⟩ := gI_e zv60
      refine c_get S hG hH (ci := 2) (k := 3) rfl in_X2 (Nat.le_of_ble_eq_true rfl) q385 (fun _ y => y) yv60 zv60 dX2_told_422 ?_
      replace z := ob z
      obtain ⟨b61, zb61, z⟩ := z
      obtain ⟨yb61, zb61⟩ := rcv_e zb61
      replace z := ob z
      obtain ⟨x62, zx62, z⟩ := z
      refine c_callq hH hS hRM (fun _ _ f1 f2 => va_runV (b := b61) (As := [.int (3 : Int32), .int v60]) (rest := []) S (metX2_wrong zx62) (cwV 2 hts (lw_V q591 q593 qs7 q172 q594) rfl rfl rfl (by decide +kernel) ⟨(Nat.le_of_ble_eq_true rfl), (Nat.le_of_ble_eq_true rfl)⟩) (c_preV hG hH hS (ci := 2) rfl zb61) rfl rfl hl.1 (by rw [yb61]; rfl) (lv_room (Nat.le_of_ble_eq_true rfl)) dX2_told_425 ⟨f1, f2⟩) (fun H locs hH hS => ?_)
      replace z := ob z
      obtain ⟨q63, zq63, z⟩ := z
      exact t_throw S hG hEx hlk zq63 hH hS z dX2_told_428
    replace z := it c56 z
    refine c_aload_n hx hb dX2_told_429 rfl (lv_at hl 1 rfl) ?_
    replace z := ob z
    obtain ⟨v57, zv57, z⟩ := z
    obtain ⟨fsv57, yv57, zv57⟩ := gR_e zv57
    refine c_get S hG hH (ci := 2) (k := 6) rfl in_X2 (Nat.le_of_ble_eq_true rfl) q388 (fun _ y => y) yv57 zv57 dX2_told_430 ?_
    refine lv_dup hx hb dX2_told_433 (ct_r _) ?_
    replace z := ob z
    obtain ⟨v58, zv58, z⟩ := z
    obtain ⟨fsv58, yv58, zv58⟩ := gI_e zv58
    refine c_getN S hG hH (ci := 1) (k := 1) rfl in_X1 (Nat.le_of_ble_eq_true rfl) q252 (fun _ y => y) yv58 zv58 dX2_told_434 ?_
    refine lv_iconst (v := (1 : Int32)) hx hb dX2_told_437 (by decide) ?_
    refine lv_iload hx hb dX2_told_438 (lv_at hl 0 rfl) ?_
    refine lv_ishl hx hb dX2_told_440 ?_
    refine lv_ior hx hb dX2_told_441 ?_
    replace z := ob z
    obtain ⟨h59, zh59, z⟩ := z
    refine c_putN S hG hH hS (ci := 1) (k := 1) rfl in_X1 tyX1 tyX1_ok nmX1 (Nat.le_of_ble_eq_true rfl) q252 (fun _ y => y) rfl (ty := .int) rfl rfl rfl zh59 dX2_told_442 (fun H locs hH hS => ?_)
    refine lv_iconst (v := (1 : Int32)) hx hb dX2_told_445 (by decide) ?_
    exact t_iret S hr hlk rfl hH hS z dX2_told_446
  replace z := ie c64 z
  refine lv_tableOut (tgt := 447) hx hb dX2_told_134 (sw_out0_5 c6 c12 c18 c45 c64) (by decide) ?_
  refine lv_iconst (v := (0 : Int32)) hx hb dX2_told_447 (by decide) ?_
  exact t_iret S hr hlk rfl hH hS z dX2_told_448
set_option maxHeartbeats 4000000 in
theorem metX2_told {l : Launch} {A : Nat → Prop} {D : va_G} {ac : Nat → ClassId} {K : KE} {h : HS} {a0 : Nat} {a1 : Option Nat} {a2 : Int32} {x : HS × (Nat ⊕ Int32)} (z : fX2_told K h a0 a1 a2 = some x) : vy_Met l yX2_told (ws_ yX2_told cX2_told 10 (some .boolean)) (rmC 10 215 K h) (cP A D ac K h [va_rf (some a0), va_rf a1, .int a2]) (tQi A D ac K x) (tX A D ac K x) (K.2.2.1 - h.2.1) (K.2.2.2 - h.2.2) A := by
  refine t_entry (by decide) (by simp [lg_sl, ct_r, ct_i, ct_l]) ?_
  intro p e s m below meth c S hr hlk hnm hEx hG hRM hH hS ls hl
  replace hl : lv_has ls 10 [(0, va_rf (some a0)), (1, va_rf a1), (2, .int a2)] := (by simpa [lv_args, ct_r, ct_i, ct_l] using hl)
  replace hnm : meth.name = "told" := hnm
  replace S : CallFix p m c cX2_told 10 s _ lw_all RX2 := S
  obtain ⟨hx, hb, hml, hown, hts⟩ := id S
  unfold fX2_told at z
  refine c_aload_n hx hb dX2_told_0 rfl (lv_at hl 1 rfl) ?_
  refine c_astore_n (lv' := [(3, va_rf a1), (0, va_rf (some a0)), (1, va_rf a1), (2, .int a2)]) hx hb dX2_told_1 rfl hl (by decide) rfl (fun ls hl => ?_)
  refine lv_iconst (v := (-1 : Int32)) hx hb dX2_told_2 (by decide) ?_
  refine lv_istore (lv' := [(4, .int (-1 : Int32)), (3, va_rf a1), (0, va_rf (some a0)), (1, va_rf a1), (2, .int a2)]) hx hb dX2_told_3 hl (by decide) (by simp [List.filter, ct_r, ct_i, ct_l]) (fun ls hl => ?_)
  refine c_aload_n hx hb dX2_told_5 rfl (lv_at hl 1 rfl) ?_
  replace z := ob z
  obtain ⟨b1, zb1, z⟩ := z
  obtain ⟨yb1, zb1⟩ := rcv_e zb1
  replace z := ob z
  obtain ⟨x2, zx2, z⟩ := z
  refine c_calli hH hS hRM (fun _ _ f1 f2 => va_runV (b := b1) (As := []) (rest := []) S (metJ6_hashCode zx2) (cwV 0 hts (lw_V q691 q692 q693 q180 q694) rfl rfl rfl (by decide +kernel) ⟨(Nat.le_of_ble_eq_true rfl), (Nat.le_of_ble_eq_true rfl)⟩) (c_preV hG hH hS (ci := 20) rfl zb1) rfl rfl hl.1 (by rw [yb1]; rfl) (lv_room (Nat.le_of_ble_eq_true rfl)) dX2_told_6 ⟨f1, f2⟩) (fun H locs hH hS => ?_)
  by_cases c6 : x2.2 = -991716523
  · replace z := it c6 z
    refine lv_lookup (off := 81) (tgt := 90) hx hb dX2_told_9 (by decide) (by rw [c6]; rfl) (by decide) ?_
    refine c_aload_n hx hb dX2_told_90 rfl (lv_at hl 1 rfl) ?_
    refine c_ldcS S hG (i := 12) (tx := "person") (List.mem_of_getElem? (i := 2) rfl) dX2_told_91 ?_
    replace z := ob z
    obtain ⟨b3, zb3, z⟩ := z
    obtain ⟨yb3, zb3⟩ := rcv_e zb3
    replace z := ob z
    obtain ⟨x4, zx4, z⟩ := z
    refine c_calli hH hS hRM (fun _ _ f1 f2 => va_runV (b := b3) (As := [va_rf (K.2.1 12)]) (rest := []) S (metJ6_equals zx4) (cwV 1 hts (lw_V q745 q746 q747 q180 q748) rfl rfl rfl (by decide +kernel) ⟨(Nat.le_of_ble_eq_true rfl), (Nat.le_of_ble_eq_true rfl)⟩) (c_preV hG hH hS (ci := 20) rfl zb3) rfl rfl hl.1 (by rw [yb3]; rfl) (lv_room (Nat.le_of_ble_eq_true rfl)) dX2_told_93 ⟨f1, f2⟩) (fun H locs hH hS => ?_)
    refine lv_if_eq (tgt := 132) hx hb dX2_told_96 (by decide) (fun c5 => ?_) (fun c5 => ?_)
    · replace z := it c5 z
      exact wX2_told_132 S hr hlk hnm hEx hG hRM x2.1 a2 (-1 : Int32) z _ _ hH hS _ (lv_sub hl [2, 4, 0] rfl)
    replace z := ie c5 z
    refine lv_iconst (v := (2 : Int32)) hx hb dX2_told_99 (by decide) ?_
    refine lv_istore (lv' := [(4, .int (2 : Int32)), (3, va_rf a1), (0, va_rf (some a0)), (1, va_rf a1), (2, .int a2)]) hx hb dX2_told_100 hl (by decide) (by simp [List.filter, ct_r, ct_i, ct_l]) (fun ls hl => ?_)
    refine lv_goto (tgt := 132) hx hb dX2_told_102 (by decide) ?_
    exact wX2_told_132 S hr hlk hnm hEx hG hRM x2.1 a2 (2 : Int32) z _ _ hH hS _ (lv_sub hl [2, 4, 0] rfl)
  replace z := ie c6 z
  by_cases c10 : x2.2 = 3143044
  · replace z := it c10 z
    refine lv_lookup (off := 66) (tgt := 75) hx hb dX2_told_9 (by decide) (by rw [c10]; rfl) (by decide) ?_
    refine c_aload_n hx hb dX2_told_75 rfl (lv_at hl 1 rfl) ?_
    refine c_ldcS S hG (i := 11) (tx := "film") (List.mem_of_getElem? (i := 1) rfl) dX2_told_76 ?_
    replace z := ob z
    obtain ⟨b7, zb7, z⟩ := z
    obtain ⟨yb7, zb7⟩ := rcv_e zb7
    replace z := ob z
    obtain ⟨x8, zx8, z⟩ := z
    refine c_calli hH hS hRM (fun _ _ f1 f2 => va_runV (b := b7) (As := [va_rf (K.2.1 11)]) (rest := []) S (metJ6_equals zx8) (cwV 1 hts (lw_V q745 q746 q747 q180 q748) rfl rfl rfl (by decide +kernel) ⟨(Nat.le_of_ble_eq_true rfl), (Nat.le_of_ble_eq_true rfl)⟩) (c_preV hG hH hS (ci := 20) rfl zb7) rfl rfl hl.1 (by rw [yb7]; rfl) (lv_room (Nat.le_of_ble_eq_true rfl)) dX2_told_78 ⟨f1, f2⟩) (fun H locs hH hS => ?_)
    refine lv_if_eq (tgt := 132) hx hb dX2_told_81 (by decide) (fun c9 => ?_) (fun c9 => ?_)
    · replace z := it c9 z
      exact wX2_told_132 S hr hlk hnm hEx hG hRM x2.1 a2 (-1 : Int32) z _ _ hH hS _ (lv_sub hl [2, 4, 0] rfl)
    replace z := ie c9 z
    refine lv_iconst (v := (1 : Int32)) hx hb dX2_told_84 (by decide) ?_
    refine lv_istore (lv' := [(4, .int (1 : Int32)), (3, va_rf a1), (0, va_rf (some a0)), (1, va_rf a1), (2, .int a2)]) hx hb dX2_told_85 hl (by decide) (by simp [List.filter, ct_r, ct_i, ct_l]) (fun ls hl => ?_)
    refine lv_goto (tgt := 132) hx hb dX2_told_87 (by decide) ?_
    exact wX2_told_132 S hr hlk hnm hEx hG hRM x2.1 a2 (1 : Int32) z _ _ hH hS _ (lv_sub hl [2, 4, 0] rfl)
  replace z := ie c10 z
  by_cases c14 : x2.2 = 3292052
  · replace z := it c14 z
    refine lv_lookup (off := 51) (tgt := 60) hx hb dX2_told_9 (by decide) (by rw [c14]; rfl) (by decide) ?_
    refine c_aload_n hx hb dX2_told_60 rfl (lv_at hl 1 rfl) ?_
    refine c_ldcS S hG (i := 10) (tx := "kind") (List.mem_of_getElem? (i := 0) rfl) dX2_told_61 ?_
    replace z := ob z
    obtain ⟨b11, zb11, z⟩ := z
    obtain ⟨yb11, zb11⟩ := rcv_e zb11
    replace z := ob z
    obtain ⟨x12, zx12, z⟩ := z
    refine c_calli hH hS hRM (fun _ _ f1 f2 => va_runV (b := b11) (As := [va_rf (K.2.1 10)]) (rest := []) S (metJ6_equals zx12) (cwV 1 hts (lw_V q745 q746 q747 q180 q748) rfl rfl rfl (by decide +kernel) ⟨(Nat.le_of_ble_eq_true rfl), (Nat.le_of_ble_eq_true rfl)⟩) (c_preV hG hH hS (ci := 20) rfl zb11) rfl rfl hl.1 (by rw [yb11]; rfl) (lv_room (Nat.le_of_ble_eq_true rfl)) dX2_told_63 ⟨f1, f2⟩) (fun H locs hH hS => ?_)
    refine lv_if_eq (tgt := 132) hx hb dX2_told_66 (by decide) (fun c13 => ?_) (fun c13 => ?_)
    · replace z := it c13 z
      exact wX2_told_132 S hr hlk hnm hEx hG hRM x2.1 a2 (-1 : Int32) z _ _ hH hS _ (lv_sub hl [2, 4, 0] rfl)
    replace z := ie c13 z
    refine lv_iconst (v := (0 : Int32)) hx hb dX2_told_69 (by decide) ?_
    refine lv_istore (lv' := [(4, .int (0 : Int32)), (3, va_rf a1), (0, va_rf (some a0)), (1, va_rf a1), (2, .int a2)]) hx hb dX2_told_70 hl (by decide) (by simp [List.filter, ct_r, ct_i, ct_l]) (fun ls hl => ?_)
    refine lv_goto (tgt := 132) hx hb dX2_told_72 (by decide) ?_
    exact wX2_told_132 S hr hlk hnm hEx hG hRM x2.1 a2 (0 : Int32) z _ _ hH hS _ (lv_sub hl [2, 4, 0] rfl)
  replace z := ie c14 z
  by_cases c18 : x2.2 = 102974396
  · replace z := it c18 z
    refine lv_lookup (off := 96) (tgt := 105) hx hb dX2_told_9 (by decide) (by rw [c18]; rfl) (by decide) ?_
    refine c_aload_n hx hb dX2_told_105 rfl (lv_at hl 1 rfl) ?_
    refine c_ldcS S hG (i := 13) (tx := "likes") (List.mem_of_getElem? (i := 3) rfl) dX2_told_106 ?_
    replace z := ob z
    obtain ⟨b15, zb15, z⟩ := z
    obtain ⟨yb15, zb15⟩ := rcv_e zb15
    replace z := ob z
    obtain ⟨x16, zx16, z⟩ := z
    refine c_calli hH hS hRM (fun _ _ f1 f2 => va_runV (b := b15) (As := [va_rf (K.2.1 13)]) (rest := []) S (metJ6_equals zx16) (cwV 1 hts (lw_V q745 q746 q747 q180 q748) rfl rfl rfl (by decide +kernel) ⟨(Nat.le_of_ble_eq_true rfl), (Nat.le_of_ble_eq_true rfl)⟩) (c_preV hG hH hS (ci := 20) rfl zb15) rfl rfl hl.1 (by rw [yb15]; rfl) (lv_room (Nat.le_of_ble_eq_true rfl)) dX2_told_108 ⟨f1, f2⟩) (fun H locs hH hS => ?_)
    refine lv_if_eq (tgt := 132) hx hb dX2_told_111 (by decide) (fun c17 => ?_) (fun c17 => ?_)
    · replace z := it c17 z
      exact wX2_told_132 S hr hlk hnm hEx hG hRM x2.1 a2 (-1 : Int32) z _ _ hH hS _ (lv_sub hl [2, 4, 0] rfl)
    replace z := ie c17 z
    refine lv_iconst (v := (3 : Int32)) hx hb dX2_told_114 (by decide) ?_
    refine lv_istore (lv' := [(4, .int (3 : Int32)), (3, va_rf a1), (0, va_rf (some a0)), (1, va_rf a1), (2, .int a2)]) hx hb dX2_told_115 hl (by decide) (by simp [List.filter, ct_r, ct_i, ct_l]) (fun ls hl => ?_)
    refine lv_goto (tgt := 132) hx hb dX2_told_117 (by decide) ?_
    exact wX2_told_132 S hr hlk hnm hEx hG hRM x2.1 a2 (3 : Int32) z _ _ hH hS _ (lv_sub hl [2, 4, 0] rfl)
  replace z := ie c18 z
  by_cases c22 : x2.2 = 106931267
  · replace z := it c22 z
    refine lv_lookup (off := 111) (tgt := 120) hx hb dX2_told_9 (by decide) (by rw [c22]; rfl) (by decide) ?_
    refine c_aload_n hx hb dX2_told_120 rfl (lv_at hl 1 rfl) ?_
    refine c_ldcS S hG (i := 14) (tx := "press") (List.mem_of_getElem? (i := 4) rfl) dX2_told_121 ?_
    replace z := ob z
    obtain ⟨b19, zb19, z⟩ := z
    obtain ⟨yb19, zb19⟩ := rcv_e zb19
    replace z := ob z
    obtain ⟨x20, zx20, z⟩ := z
    refine c_calli hH hS hRM (fun _ _ f1 f2 => va_runV (b := b19) (As := [va_rf (K.2.1 14)]) (rest := []) S (metJ6_equals zx20) (cwV 1 hts (lw_V q745 q746 q747 q180 q748) rfl rfl rfl (by decide +kernel) ⟨(Nat.le_of_ble_eq_true rfl), (Nat.le_of_ble_eq_true rfl)⟩) (c_preV hG hH hS (ci := 20) rfl zb19) rfl rfl hl.1 (by rw [yb19]; rfl) (lv_room (Nat.le_of_ble_eq_true rfl)) dX2_told_123 ⟨f1, f2⟩) (fun H locs hH hS => ?_)
    refine lv_if_eq (tgt := 132) hx hb dX2_told_126 (by decide) (fun c21 => ?_) (fun c21 => ?_)
    · replace z := it c21 z
      exact wX2_told_132 S hr hlk hnm hEx hG hRM x2.1 a2 (-1 : Int32) z _ _ hH hS _ (lv_sub hl [2, 4, 0] rfl)
    replace z := ie c21 z
    refine lv_iconst (v := (4 : Int32)) hx hb dX2_told_129 (by decide) ?_
    refine lv_istore (lv' := [(4, .int (4 : Int32)), (3, va_rf a1), (0, va_rf (some a0)), (1, va_rf a1), (2, .int a2)]) hx hb dX2_told_130 hl (by decide) (by simp [List.filter, ct_r, ct_i, ct_l]) (fun ls hl => ?_)
    exact wX2_told_132 S hr hlk hnm hEx hG hRM x2.1 a2 (4 : Int32) z _ _ hH hS _ (lv_sub hl [2, 4, 0] rfl)
  replace z := ie c22 z
  refine lv_lookup (off := 123) (tgt := 132) hx hb dX2_told_9 (by decide) (by show Op.lookupswitch.offset [((-991716523), 81), (3143044, 66), (3292052, 51), (102974396, 96), (106931267, 111)] 123 _ = 123; rw [lv_osw (a := -991716523) c6 (by decide), lv_osw (a := 3143044) c10 (by decide), lv_osw (a := 3292052) c14 (by decide), lv_osw (a := 102974396) c18 (by decide), lv_osw (a := 106931267) c22 (by decide)]; rfl) (by decide) ?_
  exact wX2_told_132 S hr hlk hnm hEx hG hRM x2.1 a2 (-1 : Int32) z _ _ hH hS _ (lv_sub hl [2, 4, 0] rfl)

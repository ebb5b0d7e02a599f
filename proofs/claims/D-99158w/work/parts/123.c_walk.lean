set_option maxRecDepth 100000
/-! FourOnOne$Facts.holds(LFourOnOne$Moment;)Z -/
def fX17_holds_2 (K : KE) (h : HS) (a0 : Nat) (rh : Option Nat → Option Nat → Option Int32) : Nat → Option Nat → Int32 → Option (Int32)
  | 0, _, _ => none
  | n + 1, a1, a2 =>
    (gR K h (some a0) 14 0).bind fun v1 =>
    (rcv K h v1 19).bind fun b2 =>
    (fJ2_size K h b2).bind fun x3 =>
    if x3 ≤ a2 then
      (gI K h (some a0) 14 1).bind fun v5 =>
      (zr v5).bind fun g6 =>
      some v5
    else
    (gR K h (some a0) 14 0).bind fun v7 =>
    (rcv K h v7 19).bind fun b8 =>
    (fJ2_get K h b8 a2).bind fun x9 =>
    (ckL K h x9 [14, 15, 16, 17]).bind fun u10 =>
    (rh x9 a1).bind fun x11 =>
    (gI K h (some a0) 14 1).bind fun v12 =>
    if x11 = v12 then
      fX17_holds_2 K h a0 rh n a1 (a2 + (1 : Int32))
    else
    (gI K h (some a0) 14 1).bind fun v14 =>
    if v14 = 0 then
      some (1 : Int32)
    else
    some (0 : Int32)
def fX17_holds (K : KE) (h : HS) (rh : Option Nat → Option Nat → Option Int32) (a0 : Nat) (a1 : Option Nat) : Option (Int32) :=
  fX17_holds_2 K h a0 rh FU a1 (0 : Int32)
set_option maxHeartbeats 4000000 in
theorem wX17_holds_2 {p : Program} {l : Launch} {e : Env} {s : State} {m : MethodId} {args : Array Value} {below : List Frame} {meth : Method} {c : Code} {A : Nat → Prop} {D : va_G} {ac : Nat → ClassId} {K : KE} {h : HS} {a0 : Nat} {fr lo : Nat} (S : CallFix p m c cX17_holds 3 s args lw_all RX17) (hr : meth.sig.returnType = some .boolean) (hlk : meth.locks = false) (hnm : meth.name = "holds") (hG : GK A D ac K s) (hRM : RM K s (rmC (fr + 1) (lo + 60) K h)) {rh : Option Nat → Option Nat → Option Int32} (hfr : 100 ≤ fr ∧ 4500 ≤ lo) (hrc : HOK l A D ac K h fr lo rh) {x : Int32} : ∀ (n : Nat) (a1 : Option Nat) (a2 : Int32), fX17_holds_2 K h a0 rh n a1 a2 = some x → cGo p l e (rmC (fr + 1) (lo + 60) K h) s m args below meth c A D ac K (MQ below (cQi A D ac K (h, x)) args s (K.2.2.1 - h.2.1) (K.2.2.2 - h.2.2) A) 3 2 [(0, va_rf (some a0)), (1, va_rf a1), (2, .int a2)] [] h := by
  obtain ⟨hx, hb, hml, hown, hts⟩ := id S
  intro n
  induction n with
  | zero => intro a1 a2 z; cases z
  | succ n ih =>
    intro a1 a2 z H locs hH hS ls hl
    rw [fX17_holds_2] at z
    refine lv_iload_n hx hb dX17_holds_2 rfl (lv_at hl 2 rfl) ?_
    refine c_aload_n hx hb dX17_holds_3 rfl (lv_at hl 0 rfl) ?_
    replace z := ob z
    obtain ⟨v1, zv1, z⟩ := z
    obtain ⟨fsv1, yv1, zv1⟩ := gR_e zv1
    refine c_get S hG hH (ci := 14) (k := 0) rfl in_X17 (Nat.le_of_ble_eq_true rfl) q1199 (fun _ y => y) yv1 zv1 dX17_holds_4 ?_
    replace z := ob z
    obtain ⟨b2, zb2, z⟩ := z
    obtain ⟨yb2, zb2⟩ := rcv_e zb2
    replace z := ob z
    obtain ⟨x3, zx3, z⟩ := z
    refine c_callFi hH hS hRM (fun _ _ f1 f2 => va_runF (b := b2) (As := []) (rest := [.int a2]) (hG.1.1 19 _ rfl).2 S (metJ2_size zx3) (va_cwF 0 hts (lw_app (lw_l4 q1396 q761 q763 q171) (lw_meth q765)) rfl rfl rfl hG.2.2.2.2.1.1 (by decide +kernel) ⟨by dsimp only; omega, by dsimp only; omega⟩) (c_preV hG hH hS (ci := 19) rfl zb2) rfl rfl hl.1 (by rw [yb2]; rfl) (lv_room (Nat.le_of_ble_eq_true rfl)) dX17_holds_7 ⟨f1, f2⟩) (fun H locs hH hS => ?_)
    refine lv_icmp_ge (tgt := 58) hx hb dX17_holds_12 (by decide) (fun c4 => ?_) (fun c4 => ?_)
    · replace z := it c4 z
      refine c_aload_n hx hb dX17_holds_58 rfl (lv_at hl 0 rfl) ?_
      replace z := ob z
      obtain ⟨v5, zv5, z⟩ := z
      obtain ⟨fsv5, yv5, zv5⟩ := gI_e zv5
      refine c_get S hG hH (ci := 14) (k := 1) rfl in_X17 (Nat.le_of_ble_eq_true rfl) q1201 (fun _ y => y) yv5 zv5 dX17_holds_59 ?_
      replace z := ob z
      obtain ⟨g6, zg6, z⟩ := z
      obtain ⟨yg6, -⟩ := zr_e zg6
      exact c_iret' S hr hlk yg6 hH hS z dX17_holds_62
    replace z := ie c4 z
    refine c_aload_n hx hb dX17_holds_15 rfl (lv_at hl 0 rfl) ?_
    replace z := ob z
    obtain ⟨v7, zv7, z⟩ := z
    obtain ⟨fsv7, yv7, zv7⟩ := gR_e zv7
    refine c_get S hG hH (ci := 14) (k := 0) rfl in_X17 (Nat.le_of_ble_eq_true rfl) q1199 (fun _ y => y) yv7 zv7 dX17_holds_16 ?_
    refine lv_iload_n hx hb dX17_holds_19 rfl (lv_at hl 2 rfl) ?_
    replace z := ob z
    obtain ⟨b8, zb8, z⟩ := z
    obtain ⟨yb8, zb8⟩ := rcv_e zb8
    replace z := ob z
    obtain ⟨x9, zx9, z⟩ := z
    refine c_callFq hH hS hRM (fun _ _ f1 f2 => va_runF (b := b8) (As := [.int a2]) (rest := []) (hG.1.1 19 _ rfl).2 S (metJ2_get zx9) (va_cwF 1 hts (lw_app (lw_l4 q1398 q803 q805 q171) (lw_meth q807)) rfl rfl rfl hG.2.2.2.2.1.2.1 (by decide +kernel) ⟨by dsimp only; omega, by dsimp only; omega⟩) (c_preV hG hH hS (ci := 19) rfl zb8) rfl rfl hl.1 (by rw [yb8]; rfl) (lv_room (Nat.le_of_ble_eq_true rfl)) dX17_holds_20 ⟨f1, f2⟩) (fun H locs hH hS => ?_)
    replace z := ob z
    obtain ⟨u10, zu10, z⟩ := z
    refine c_castL S hG hH q1399 [14, 15, 16, 17] cast_Test zu10 dX17_holds_25 ?_
    refine c_aload_n hx hb dX17_holds_28 rfl (lv_at hl 1 rfl) ?_
    replace z := ob z
    obtain ⟨x11, zx11, z⟩ := z
    refine c_vho S hG hH hS hRM q1400 hrc zx11 ⟨by dsimp only; omega, by dsimp only; omega⟩ hl.1 (Nat.le_of_ble_eq_true rfl) dX17_holds_29 (fun H locs hH hS => ?_)
    refine c_aload_n hx hb dX17_holds_32 rfl (lv_at hl 0 rfl) ?_
    replace z := ob z
    obtain ⟨v12, zv12, z⟩ := z
    obtain ⟨fsv12, yv12, zv12⟩ := gI_e zv12
    refine c_get S hG hH (ci := 14) (k := 1) rfl in_X17 (Nat.le_of_ble_eq_true rfl) q1201 (fun _ y => y) yv12 zv12 dX17_holds_33 ?_
    refine lv_icmp_eq (tgt := 52) hx hb dX17_holds_36 (by decide) (fun c13 => ?_) (fun c13 => ?_)
    · replace z := it c13 z
      refine lv_iinc (v := (a2 + (1 : Int32))) (lv' := [(2, .int (a2 + (1 : Int32))), (0, va_rf (some a0)), (1, va_rf a1)]) hx hb dX17_holds_52 hl (k := 2) rfl rfl (by decide) (by simp [List.filter, ct_r]) (fun ls hl => ?_)
      refine lv_goto (tgt := 2) hx hb dX17_holds_55 (by decide) ?_
      exact ih a1 (a2 + (1 : Int32)) z _ _ hH hS _ (lv_sub hl [1, 2, 0] rfl)
    replace z := ie c13 z
    refine c_aload_n hx hb dX17_holds_39 rfl (lv_at hl 0 rfl) ?_
    replace z := ob z
    obtain ⟨v14, zv14, z⟩ := z
    obtain ⟨fsv14, yv14, zv14⟩ := gI_e zv14
    refine c_get S hG hH (ci := 14) (k := 1) rfl in_X17 (Nat.le_of_ble_eq_true rfl) q1201 (fun _ y => y) yv14 zv14 dX17_holds_40 ?_
    refine lv_if_ne (tgt := 50) hx hb dX17_holds_43 (by decide) (fun c15 => ?_) (fun c15 => ?_)
    · replace z := ie c15 z
      refine lv_iconst (v := (0 : Int32)) hx hb dX17_holds_50 (by decide) ?_
      exact c_iret' S hr hlk rfl hH hS z dX17_holds_51
    replace z := it c15 z
    refine lv_iconst (v := (1 : Int32)) hx hb dX17_holds_46 (by decide) ?_
    refine lv_goto (tgt := 51) hx hb dX17_holds_47 (by decide) ?_
    exact c_iret' S hr hlk rfl hH hS z dX17_holds_51
set_option maxHeartbeats 4000000 in
theorem metX17_holds {l : Launch} {A : Nat → Prop} {D : va_G} {ac : Nat → ClassId} {K : KE} {h : HS} {fr lo : Nat} {rh : Option Nat → Option Nat → Option Int32} (hfr : 100 ≤ fr ∧ 4500 ≤ lo) (hrc : HOK l A D ac K h fr lo rh) {a0 : Nat} {a1 : Option Nat} {x : Int32} (z : fX17_holds K h rh a0 a1 = some x) : Met l yX17_holds (ws_ yX17_holds cX17_holds 3 (some .boolean)) (rmC (fr + 1) (lo + 60) K h) (cP A D ac K h [va_rf (some a0), va_rf a1]) (cQi A D ac K (h, x)) (K.2.2.1 - h.2.1) (K.2.2.2 - h.2.2) A := by
  refine c_entry (plainFor_of_name (by decide)) (by simp [lg_sl, ct_r, ct_i, ct_l]) ?_
  intro p e s m below meth c S hr hlk hnm hG hRM hH hS ls hl
  replace hl : lv_has ls 3 [(0, va_rf (some a0)), (1, va_rf a1)] := (by simpa [lv_args, ct_r, ct_i, ct_l] using hl)
  replace hnm : meth.name = "holds" := hnm
  replace S : CallFix p m c cX17_holds 3 s _ lw_all RX17 := S
  obtain ⟨hx, hb, hml, hown, hts⟩ := id S
  unfold fX17_holds at z
  refine lv_iconst (v := (0 : Int32)) hx hb dX17_holds_0 (by decide) ?_
  refine lv_istore_n (i := 2) (lv' := [(2, .int (0 : Int32)), (0, va_rf (some a0)), (1, va_rf a1)]) hx hb dX17_holds_1 rfl hl (by decide) (by simp [List.filter, ct_r, ct_i, ct_l]) (fun ls hl => ?_)
  exact wX17_holds_2 S hr hlk hnm hG hRM hfr hrc FU a1 (0 : Int32) z _ _ hH hS _ (lv_sub hl [1, 2, 0] rfl)
/-! FourOnOne$Not.holds(LFourOnOne$Moment;)Z -/
def fX18_holds (K : KE) (h : HS) (rh : Option Nat → Option Nat → Option Int32) (a0 : Nat) (a1 : Option Nat) : Option (Int32) :=
  (gR K h (some a0) 15 0).bind fun v1 =>
  (rh v1 a1).bind fun x2 =>
  if x2 = 0 then
    some (1 : Int32)
  else
  some (0 : Int32)
set_option maxHeartbeats 4000000 in
theorem metX18_holds {l : Launch} {A : Nat → Prop} {D : va_G} {ac : Nat → ClassId} {K : KE} {h : HS} {fr lo : Nat} {rh : Option Nat → Option Nat → Option Int32} (hfr : 100 ≤ fr ∧ 4500 ≤ lo) (hrc : HOK l A D ac K h fr lo rh) {a0 : Nat} {a1 : Option Nat} {x : Int32} (z : fX18_holds K h rh a0 a1 = some x) : Met l yX18_holds (ws_ yX18_holds cX18_holds 2 (some .boolean)) (rmC (fr + 1) (lo + 60) K h) (cP A D ac K h [va_rf (some a0), va_rf a1]) (cQi A D ac K (h, x)) (K.2.2.1 - h.2.1) (K.2.2.2 - h.2.2) A := by
  refine c_entry (plainFor_of_name (by decide)) (by simp [lg_sl, ct_r, ct_i, ct_l]) ?_
  intro p e s m below meth c S hr hlk hnm hG hRM hH hS ls hl
  replace hl : lv_has ls 2 [(0, va_rf (some a0)), (1, va_rf a1)] := (by simpa [lv_args, ct_r, ct_i, ct_l] using hl)
  replace hnm : meth.name = "holds" := hnm
  replace S : CallFix p m c cX18_holds 2 s _ lw_all RX18 := S
  obtain ⟨hx, hb, hml, hown, hts⟩ := id S
  unfold fX18_holds at z
  refine c_aload_n hx hb dX18_holds_0 rfl (lv_at hl 0 rfl) ?_
  replace z := ob z
  obtain ⟨v1, zv1, z⟩ := z
  obtain ⟨fsv1, yv1, zv1⟩ := gR_e zv1
  refine c_get S hG hH (ci := 15) (k := 0) rfl in_X18 (Nat.le_of_ble_eq_true rfl) q1226 (fun _ y => y) yv1 zv1 dX18_holds_1 ?_
  refine c_aload_n hx hb dX18_holds_4 rfl (lv_at hl 1 rfl) ?_
  replace z := ob z
  obtain ⟨x2, zx2, z⟩ := z
  refine c_vho S hG hH hS hRM q1403 hrc zx2 ⟨by dsimp only; omega, by dsimp only; omega⟩ hl.1 (Nat.le_of_ble_eq_true rfl) dX18_holds_5 (fun H locs hH hS => ?_)
  refine lv_if_ne (tgt := 15) hx hb dX18_holds_8 (by decide) (fun c3 => ?_) (fun c3 => ?_)
  · replace z := ie c3 z
    refine lv_iconst (v := (0 : Int32)) hx hb dX18_holds_15 (by decide) ?_
    exact c_iret' S hr hlk rfl hH hS z dX18_holds_16
  replace z := it c3 z
  refine lv_iconst (v := (1 : Int32)) hx hb dX18_holds_11 (by decide) ?_
  refine lv_goto (tgt := 16) hx hb dX18_holds_12 (by decide) ?_
  exact c_iret' S hr hlk rfl hH hS z dX18_holds_16
/-! FourOnOne$All.holds(LFourOnOne$Moment;)Z -/
def fX19_holds (K : KE) (h : HS) (rh : Option Nat → Option Nat → Option Int32) (a0 : Nat) (a1 : Option Nat) : Option (Int32) :=
  some (1 : Int32)
set_option maxHeartbeats 4000000 in
theorem metX19_holds {l : Launch} {A : Nat → Prop} {D : va_G} {ac : Nat → ClassId} {K : KE} {h : HS} {fr lo : Nat} {rh : Option Nat → Option Nat → Option Int32} (hfr : 100 ≤ fr ∧ 4500 ≤ lo) (hrc : HOK l A D ac K h fr lo rh) {a0 : Nat} {a1 : Option Nat} {x : Int32} (z : fX19_holds K h rh a0 a1 = some x) : Met l yX19_holds (ws_ yX19_holds cX19_holds 2 (some .boolean)) (rmC (fr + 1) (lo + 60) K h) (cP A D ac K h [va_rf (some a0), va_rf a1]) (cQi A D ac K (h, x)) (K.2.2.1 - h.2.1) (K.2.2.2 - h.2.2) A := by
  refine c_entry (plainFor_of_name (by decide)) (by simp [lg_sl, ct_r, ct_i, ct_l]) ?_
  intro p e s m below meth c S hr hlk hnm hG hRM hH hS ls hl
  replace hl : lv_has ls 2 [(0, va_rf (some a0)), (1, va_rf a1)] := (by simpa [lv_args, ct_r, ct_i, ct_l] using hl)
  replace hnm : meth.name = "holds" := hnm
  replace S : CallFix p m c cX19_holds 2 s _ lw_all RX19 := S
  obtain ⟨hx, hb, hml, hown, hts⟩ := id S
  unfold fX19_holds at z
  refine lv_iconst (v := (1 : Int32)) hx hb dX19_holds_0 (by decide) ?_
  exact c_iret' S hr hlk rfl hH hS z dX19_holds_1
/-! FourOnOne$Than.holds(LFourOnOne$Moment;)Z -/
def fX20_holds (K : KE) (h : HS) (rh : Option Nat → Option Nat → Option Int32) (a0 : Nat) (a1 : Option Nat) : Option (Int32) :=
  (gR K h (some a0) 17 0).bind fun v1 =>
  (vAt K h 64 v1 a1).bind fun x2 =>
  (gR K h (some a0) 17 1).bind fun v3 =>
  (vAt K h 64 v3 a1).bind fun x4 =>
  (gI K h (some a0) 17 2).bind fun v5 =>
  if v5 = (60 : Int32) then
    if x4 ≤ x2 then
      some (0 : Int32)
    else
    some (1 : Int32)
  else
  (gI K h (some a0) 17 2).bind fun v7 =>
  if v7 = (62 : Int32) then
    if x2 ≤ x4 then
      some (0 : Int32)
    else
    some (1 : Int32)
  else
  if x2 = x4 then
    some (1 : Int32)
  else
  some (0 : Int32)
set_option maxHeartbeats 4000000 in
theorem metX20_holds {l : Launch} {A : Nat → Prop} {D : va_G} {ac : Nat → ClassId} {K : KE} {h : HS} {fr lo : Nat} {rh : Option Nat → Option Nat → Option Int32} (hfr : 100 ≤ fr ∧ 4500 ≤ lo) (hrc : HOK l A D ac K h fr lo rh) {a0 : Nat} {a1 : Option Nat} {x : Int32} (z : fX20_holds K h rh a0 a1 = some x) : Met l yX20_holds (ws_ yX20_holds cX20_holds 6 (some .boolean)) (rmC (fr + 1) (lo + 60) K h) (cP A D ac K h [va_rf (some a0), va_rf a1]) (cQi A D ac K (h, x)) (K.2.2.1 - h.2.1) (K.2.2.2 - h.2.2) A := by
  refine c_entry (plainFor_of_name (by decide)) (by simp [lg_sl, ct_r, ct_i, ct_l]) ?_
  intro p e s m below meth c S hr hlk hnm hG hRM hH hS ls hl
  replace hl : lv_has ls 6 [(0, va_rf (some a0)), (1, va_rf a1)] := (by simpa [lv_args, ct_r, ct_i, ct_l] using hl)
  replace hnm : meth.name = "holds" := hnm
  replace S : CallFix p m c cX20_holds 6 s _ lw_all RX20 := S
  obtain ⟨hx, hb, hml, hown, hts⟩ := id S
  unfold fX20_holds at z
  refine c_aload_n hx hb dX20_holds_0 rfl (lv_at hl 0 rfl) ?_
  replace z := ob z
  obtain ⟨v1, zv1, z⟩ := z
  obtain ⟨fsv1, yv1, zv1⟩ := gR_e zv1
  refine c_get S hG hH (ci := 17) (k := 0) rfl in_X20 (Nat.le_of_ble_eq_true rfl) q1244 (fun _ y => y) yv1 zv1 dX20_holds_1 ?_
  refine c_aload_n hx hb dX20_holds_4 rfl (lv_at hl 1 rfl) ?_
  replace z := ob z
  obtain ⟨x2, zx2, z⟩ := z
  refine c_vat S hG hH hS hRM q1406 (vAt_ok _) zx2 ⟨by rw [frA64]; dsimp only; omega, by rw [loA64]; dsimp only; omega⟩ hl.1 (Nat.le_of_ble_eq_true rfl) dX20_holds_5 (fun H locs hH hS => ?_)
  refine lv_lstore_n (i := 2) (lv' := [(2, .long x2), (0, va_rf (some a0)), (1, va_rf a1)]) hx hb dX20_holds_8 rfl hl (by decide) (by simp [List.filter, ct_r, ct_i, ct_l]) (fun ls hl => ?_)
  refine c_aload_n hx hb dX20_holds_9 rfl (lv_at hl 1 rfl) ?_
  replace z := ob z
  obtain ⟨v3, zv3, z⟩ := z
  obtain ⟨fsv3, yv3, zv3⟩ := gR_e zv3
  refine c_get S hG hH (ci := 17) (k := 1) rfl in_X20 (Nat.le_of_ble_eq_true rfl) q1245 (fun _ y => y) yv3 zv3 dX20_holds_10 ?_
  refine c_aload_n hx hb dX20_holds_13 rfl (lv_at hl 2 rfl) ?_
  replace z := ob z
  obtain ⟨x4, zx4, z⟩ := z
  refine c_vat S hG hH hS hRM q1406 (vAt_ok _) zx4 ⟨by rw [frA64]; dsimp only; omega, by rw [loA64]; dsimp only; omega⟩ hl.1 (Nat.le_of_ble_eq_true rfl) dX20_holds_14 (fun H locs hH hS => ?_)
  refine lv_lstore (lv' := [(4, .long x4), (2, .long x2), (0, va_rf (some a0)), (1, va_rf a1)]) hx hb dX20_holds_17 hl (by decide) rfl (fun ls hl => ?_)
  refine c_aload_n hx hb dX20_holds_19 rfl (lv_at hl 2 rfl) ?_
  replace z := ob z
  obtain ⟨v5, zv5, z⟩ := z
  obtain ⟨fsv5, yv5, zv5⟩ := gI_e zv5
  refine c_get S hG hH (ci := 17) (k := 2) rfl in_X20 (Nat.le_of_ble_eq_true rfl) q1246 (fun _ y => y) yv5 zv5 dX20_holds_20 ?_
  refine lv_bipush (v := (60 : Int32)) hx hb dX20_holds_23 (by decide) ?_
  refine lv_icmp_ne (tgt := 43) hx hb dX20_holds_25 (by decide) (fun c6 => ?_) (fun c6 => ?_)
  rotate_left 1
  · replace z := it c6 z
    refine lv_lload_n hx hb dX20_holds_28 rfl (lv_at hl 1 rfl) ?_
    refine lv_lload hx hb dX20_holds_29 (lv_at hl 0 rfl) ?_
    refine W.lcmp hx hb dX20_holds_31 ?_
    refine lv_if_ge (tgt := 39) hx hb dX20_holds_32 (by decide) (fun c11 => ?_) (fun c11 => ?_)
    · replace z := it ((lg_cmp_ge _ _).mp c11) z
      refine lv_iconst (v := (0 : Int32)) hx hb dX20_holds_39 (by decide) ?_
      refine lv_goto (tgt := 79) hx hb dX20_holds_40 (by decide) ?_
      exact c_iret' S hr hlk rfl hH hS z dX20_holds_79
    replace z := ie (fun q => c11 ((lg_cmp_ge _ _).mpr q)) z
    refine lv_iconst (v := (1 : Int32)) hx hb dX20_holds_35 (by decide) ?_
    refine lv_goto (tgt := 79) hx hb dX20_holds_36 (by decide) ?_
    exact c_iret' S hr hlk rfl hH hS z dX20_holds_79
  replace z := ie c6 z
  refine c_aload_n hx hb dX20_holds_43 rfl (lv_at hl 2 rfl) ?_
  replace z := ob z
  obtain ⟨v7, zv7, z⟩ := z
  obtain ⟨fsv7, yv7, zv7⟩ := gI_e zv7
  refine c_get S hG hH (ci := 17) (k := 2) rfl in_X20 (Nat.le_of_ble_eq_true rfl) q1246 (fun _ y => y) yv7 zv7 dX20_holds_44 ?_
  refine lv_bipush (v := (62 : Int32)) hx hb dX20_holds_47 (by decide) ?_
  refine lv_icmp_ne (tgt := 67) hx hb dX20_holds_49 (by decide) (fun c8 => ?_) (fun c8 => ?_)
  · replace z := ie c8 z
    refine lv_lload_n hx hb dX20_holds_67 rfl (lv_at hl 1 rfl) ?_
    refine lv_lload hx hb dX20_holds_68 (lv_at hl 0 rfl) ?_
    refine W.lcmp hx hb dX20_holds_70 ?_
    refine lv_if_ne (tgt := 78) hx hb dX20_holds_71 (by decide) (fun c9 => ?_) (fun c9 => ?_)
    · replace z := ie (fun q => c9 ((lg_cmp_eq _ _).mpr q)) z
      refine lv_iconst (v := (0 : Int32)) hx hb dX20_holds_78 (by decide) ?_
      exact c_iret' S hr hlk rfl hH hS z dX20_holds_79
    replace z := it ((lg_cmp_eq _ _).mp c9) z
    refine lv_iconst (v := (1 : Int32)) hx hb dX20_holds_74 (by decide) ?_
    refine lv_goto (tgt := 79) hx hb dX20_holds_75 (by decide) ?_
    exact c_iret' S hr hlk rfl hH hS z dX20_holds_79
  replace z := it c8 z
  refine lv_lload_n hx hb dX20_holds_52 rfl (lv_at hl 1 rfl) ?_
  refine lv_lload hx hb dX20_holds_53 (lv_at hl 0 rfl) ?_
  refine W.lcmp hx hb dX20_holds_55 ?_
  refine lv_if_le (tgt := 63) hx hb dX20_holds_56 (by decide) (fun c10 => ?_) (fun c10 => ?_)
  · replace z := it ((lg_cmp_le _ _).mp c10) z
    refine lv_iconst (v := (0 : Int32)) hx hb dX20_holds_63 (by decide) ?_
    refine lv_goto (tgt := 79) hx hb dX20_holds_64 (by decide) ?_
    exact c_iret' S hr hlk rfl hH hS z dX20_holds_79
  replace z := ie (fun q => c10 ((lg_cmp_le _ _).mpr q)) z
  refine lv_iconst (v := (1 : Int32)) hx hb dX20_holds_59 (by decide) ?_
  refine lv_goto (tgt := 79) hx hb dX20_holds_60 (by decide) ?_
  exact c_iret' S hr hlk rfl hH hS z dX20_holds_79

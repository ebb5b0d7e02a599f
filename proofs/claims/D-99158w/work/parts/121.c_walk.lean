set_option maxRecDepth 100000
/-! FourOnOne$Chain.at(LFourOnOne$Moment;)J -/
def fX11_at_21 (K : KE) (h : HS) (a0 : Nat) (rc : Option Nat → Option Nat → Option Int64) : Nat → Option Nat → Int64 → Int32 → Option (Int64)
  | 0, _, _, _ => none
  | n + 1, a1, a2, a4 =>
    (gR K h (some a0) 9 0).bind fun v1 =>
    (rcv K h v1 19).bind fun b2 =>
    (fJ2_size K h b2).bind fun x3 =>
    if x3 ≤ a4 then
      some a2
    else
    (gR K h (some a0) 9 1).bind fun v5 =>
    (rcv K h v5 21).bind fun b6 =>
    (fJ15_charAt K h b6 a4).bind fun x7 =>
    (gR K h (some a0) 9 0).bind fun v8 =>
    (rcv K h v8 19).bind fun b9 =>
    (fJ2_get K h b9 a4).bind fun x10 =>
    (ckL K h x10 [9, 10, 11, 12, 13]).bind fun u11 =>
    (rc x10 a1).bind fun x12 =>
    (fX11_two K h x7 a2 x12).bind fun x13 =>
    (fX0_held K h x13).bind fun x14 =>
    fX11_at_21 K h a0 rc n a1 x14 (a4 + (1 : Int32))
def fX11_at (K : KE) (h : HS) (rc : Option Nat → Option Nat → Option Int64) (a0 : Nat) (a1 : Option Nat) : Option (Int64) :=
  (gR K h (some a0) 9 0).bind fun v1 =>
  (rcv K h v1 19).bind fun b2 =>
  (fJ2_get K h b2 (0 : Int32)).bind fun x3 =>
  (ckL K h x3 [9, 10, 11, 12, 13]).bind fun u4 =>
  (rc x3 a1).bind fun x5 =>
  fX11_at_21 K h a0 rc FU a1 x5 (1 : Int32)
set_option maxHeartbeats 4000000 in
theorem wX11_at_21 {p : Program} {l : Launch} {e : Env} {s : State} {m : MethodId} {args : Array Value} {below : List Frame} {meth : Method} {c : Code} {A : Nat → Prop} {D : va_G} {ac : Nat → ClassId} {K : KE} {h : HS} {a0 : Nat} {fr lo : Nat} (S : CallFix p m c cX11_at 5 s args lw_all RX11) (hr : meth.sig.returnType = some .long) (hlk : meth.locks = false) (hnm : meth.name = "at") (hG : GK A D ac K s) (hRM : RM K s (rmC (fr + 1) (lo + 60) K h)) {rc : Option Nat → Option Nat → Option Int64} (hfr : 20 ≤ fr ∧ 400 ≤ lo) (hrc : VOK l A D ac K h fr lo rc) {x : Int64} : ∀ (n : Nat) (a1 : Option Nat) (a2 : Int64) (a4 : Int32), fX11_at_21 K h a0 rc n a1 a2 a4 = some x → cGo p l e (rmC (fr + 1) (lo + 60) K h) s m args below meth c A D ac K (MQ below (cQl A D ac K (h, x)) args s (K.2.2.1 - h.2.1) (K.2.2.2 - h.2.2) A) 5 21 [(0, va_rf (some a0)), (1, va_rf a1), (2, .long a2), (4, .int a4)] [] h := by
  obtain ⟨hx, hb, hml, hown, hts⟩ := id S
  intro n
  induction n with
  | zero => intro a1 a2 a4 z; cases z
  | succ n ih =>
    intro a1 a2 a4 z H locs hH hS ls hl
    rw [fX11_at_21] at z
    refine lv_iload hx hb dX11_at_21 (lv_at hl 3 rfl) ?_
    refine c_aload_n hx hb dX11_at_23 rfl (lv_at hl 0 rfl) ?_
    replace z := ob z
    obtain ⟨v1, zv1, z⟩ := z
    obtain ⟨fsv1, yv1, zv1⟩ := gR_e zv1
    refine c_get S hG hH (ci := 9) (k := 0) rfl in_X11 (Nat.le_of_ble_eq_true rfl) q1030 (fun _ y => y) yv1 zv1 dX11_at_24 ?_
    replace z := ob z
    obtain ⟨b2, zb2, z⟩ := z
    obtain ⟨yb2, zb2⟩ := rcv_e zb2
    replace z := ob z
    obtain ⟨x3, zx3, z⟩ := z
    refine c_callFi hH hS hRM (fun _ _ f1 f2 => va_runF (b := b2) (As := []) (rest := [.int a4]) (hG.1.1 19 _ rfl).2 S (metJ2_size zx3) (va_cwF 0 hts (lw_app (lw_l4 q1444 q761 q763 q171) (lw_meth q765)) rfl rfl rfl hG.2.2.2.2.1.1 (by decide +kernel) ⟨by dsimp only; omega, by dsimp only; omega⟩) (c_preV hG hH hS (ci := 19) rfl zb2) rfl rfl hl.1 (by rw [yb2]; rfl) (lv_room (Nat.le_of_ble_eq_true rfl)) dX11_at_27 ⟨f1, f2⟩) (fun H locs hH hS => ?_)
    refine lv_icmp_ge (tgt := 76) hx hb dX11_at_32 (by decide) (fun c4 => ?_) (fun c4 => ?_)
    · replace z := it c4 z
      refine lv_lload_n hx hb dX11_at_76 rfl (lv_at hl 2 rfl) ?_
      exact c_lret' S hr hlk hH hS z dX11_at_77
    replace z := ie c4 z
    refine c_aload_n hx hb dX11_at_35 rfl (lv_at hl 0 rfl) ?_
    replace z := ob z
    obtain ⟨v5, zv5, z⟩ := z
    obtain ⟨fsv5, yv5, zv5⟩ := gR_e zv5
    refine c_get S hG hH (ci := 9) (k := 1) rfl in_X11 (Nat.le_of_ble_eq_true rfl) q1031 (fun _ y => y) yv5 zv5 dX11_at_36 ?_
    refine lv_iload hx hb dX11_at_39 (lv_at hl 3 rfl) ?_
    replace z := ob z
    obtain ⟨b6, zb6, z⟩ := z
    obtain ⟨yb6, zb6⟩ := rcv_e zb6
    replace z := ob z
    obtain ⟨x7, zx7, z⟩ := z
    refine c_calli hH hS hRM (fun _ _ f1 f2 => va_runV (b := b6) (As := [.int a4]) (rest := []) S (metJ15_charAt zx7) (cwV 1 hts (lw_V q1445 q1446 q1447 q195 q1448) rfl rfl rfl (by decide +kernel) ⟨by dsimp only; omega, by dsimp only; omega⟩) (c_preV hG hH hS (ci := 21) rfl zb6) rfl rfl hl.1 (by rw [yb6]; rfl) (lv_room (Nat.le_of_ble_eq_true rfl)) dX11_at_41 ⟨f1, f2⟩) (fun H locs hH hS => ?_)
    refine lv_lload_n hx hb dX11_at_44 rfl (lv_at hl 2 rfl) ?_
    refine c_aload_n hx hb dX11_at_45 rfl (lv_at hl 0 rfl) ?_
    replace z := ob z
    obtain ⟨v8, zv8, z⟩ := z
    obtain ⟨fsv8, yv8, zv8⟩ := gR_e zv8
    refine c_get S hG hH (ci := 9) (k := 0) rfl in_X11 (Nat.le_of_ble_eq_true rfl) q1030 (fun _ y => y) yv8 zv8 dX11_at_46 ?_
    refine lv_iload hx hb dX11_at_49 (lv_at hl 3 rfl) ?_
    replace z := ob z
    obtain ⟨b9, zb9, z⟩ := z
    obtain ⟨yb9, zb9⟩ := rcv_e zb9
    replace z := ob z
    obtain ⟨x10, zx10, z⟩ := z
    refine c_callFq hH hS hRM (fun _ _ f1 f2 => va_runF (b := b9) (As := [.int a4]) (rest := [.long a2, .int x7]) (hG.1.1 19 _ rfl).2 S (metJ2_get zx10) (va_cwF 1 hts (lw_app (lw_l4 q1427 q803 q805 q171) (lw_meth q807)) rfl rfl rfl hG.2.2.2.2.1.2.1 (by decide +kernel) ⟨by dsimp only; omega, by dsimp only; omega⟩) (c_preV hG hH hS (ci := 19) rfl zb9) rfl rfl hl.1 (by rw [yb9]; rfl) (lv_room (Nat.le_of_ble_eq_true rfl)) dX11_at_51 ⟨f1, f2⟩) (fun H locs hH hS => ?_)
    replace z := ob z
    obtain ⟨u11, zu11, z⟩ := z
    refine c_castL S hG hH q1428 [9, 10, 11, 12, 13] cast_Value zu11 dX11_at_56 ?_
    refine c_aload_n hx hb dX11_at_59 rfl (lv_at hl 1 rfl) ?_
    replace z := ob z
    obtain ⟨x12, zx12, z⟩ := z
    refine c_vat S hG hH hS hRM q1429 hrc zx12 ⟨by dsimp only; omega, by dsimp only; omega⟩ hl.1 (Nat.le_of_ble_eq_true rfl) dX11_at_60 (fun H locs hH hS => ?_)
    replace z := ob z
    obtain ⟨x13, zx13, z⟩ := z
    refine c_calll hH hS hRM (fun _ _ f1 f2 => va_runS (As := [.int x7, .long a2, .long x12]) (rest := []) S (metX11_two zx13) (va_cwS 3 hts (lw_S q1455 q1456 q193 q1457) rfl rfl rfl (by decide +kernel) ⟨by dsimp only; omega, by dsimp only; omega⟩) (c_pre hG hH hS) rfl rfl hl.1 rfl (lv_room (Nat.le_of_ble_eq_true rfl)) dX11_at_63 ⟨f1, f2⟩) (fun H locs hH hS => ?_)
    replace z := ob z
    obtain ⟨x14, zx14, z⟩ := z
    refine c_calll hH hS hRM (fun _ _ f1 f2 => va_runSN (As := [.long x13]) (rest := []) S (metX0_held zx14) ⟨va_cnB 1 hts (lw_meth q1414) rfl rfl rfl (hG.2.1.2.1 _ _ _ _ q1461) (hts _ q167) (by decide +kernel) ⟨by dsimp only; omega, by dsimp only; omega⟩, hts _ q1413, trivial⟩ (c_pre hG hH hS) rfl rfl hl.1 rfl (lv_room (Nat.le_of_ble_eq_true rfl)) dX11_at_66 ⟨f1, f2⟩) (fun H locs hH hS => ?_)
    refine lv_lstore_n (i := 2) (lv' := [(2, .long x14), (0, va_rf (some a0)), (1, va_rf a1), (4, .int a4)]) hx hb dX11_at_69 rfl hl (by decide) (by simp [List.filter, ct_r, ct_i, ct_l]) (fun ls hl => ?_)
    refine lv_iinc (v := (a4 + (1 : Int32))) (lv' := [(4, .int (a4 + (1 : Int32))), (2, .long x14), (0, va_rf (some a0)), (1, va_rf a1)]) hx hb dX11_at_70 hl (k := 3) rfl rfl (by decide) rfl (fun ls hl => ?_)
    refine lv_goto (tgt := 21) hx hb dX11_at_73 (by decide) ?_
    exact ih a1 x14 (a4 + (1 : Int32)) z _ _ hH hS _ (lv_sub hl [2, 3, 1, 0] rfl)
set_option maxHeartbeats 4000000 in
theorem metX11_at {l : Launch} {A : Nat → Prop} {D : va_G} {ac : Nat → ClassId} {K : KE} {h : HS} {fr lo : Nat} {rc : Option Nat → Option Nat → Option Int64} (hfr : 20 ≤ fr ∧ 400 ≤ lo) (hrc : VOK l A D ac K h fr lo rc) {a0 : Nat} {a1 : Option Nat} {x : Int64} (z : fX11_at K h rc a0 a1 = some x) : Met l yX11_at (ws_ yX11_at cX11_at 5 (some .long)) (rmC (fr + 1) (lo + 60) K h) (cP A D ac K h [va_rf (some a0), va_rf a1]) (cQl A D ac K (h, x)) (K.2.2.1 - h.2.1) (K.2.2.2 - h.2.2) A := by
  refine c_entry (plainFor_of_name (by decide)) (by simp [lg_sl, ct_r, ct_i, ct_l]) ?_
  intro p e s m below meth c S hr hlk hnm hG hRM hH hS ls hl
  replace hl : lv_has ls 5 [(0, va_rf (some a0)), (1, va_rf a1)] := (by simpa [lv_args, ct_r, ct_i, ct_l] using hl)
  replace hnm : meth.name = "at" := hnm
  replace S : CallFix p m c cX11_at 5 s _ lw_all RX11 := S
  obtain ⟨hx, hb, hml, hown, hts⟩ := id S
  unfold fX11_at at z
  refine c_aload_n hx hb dX11_at_0 rfl (lv_at hl 0 rfl) ?_
  replace z := ob z
  obtain ⟨v1, zv1, z⟩ := z
  obtain ⟨fsv1, yv1, zv1⟩ := gR_e zv1
  refine c_get S hG hH (ci := 9) (k := 0) rfl in_X11 (Nat.le_of_ble_eq_true rfl) q1030 (fun _ y => y) yv1 zv1 dX11_at_1 ?_
  refine lv_iconst (v := (0 : Int32)) hx hb dX11_at_4 (by decide) ?_
  replace z := ob z
  obtain ⟨b2, zb2, z⟩ := z
  obtain ⟨yb2, zb2⟩ := rcv_e zb2
  replace z := ob z
  obtain ⟨x3, zx3, z⟩ := z
  refine c_callFq hH hS hRM (fun _ _ f1 f2 => va_runF (b := b2) (As := [.int (0 : Int32)]) (rest := []) (hG.1.1 19 _ rfl).2 S (metJ2_get zx3) (va_cwF 1 hts (lw_app (lw_l4 q1427 q803 q805 q171) (lw_meth q807)) rfl rfl rfl hG.2.2.2.2.1.2.1 (by decide +kernel) ⟨by dsimp only; omega, by dsimp only; omega⟩) (c_preV hG hH hS (ci := 19) rfl zb2) rfl rfl hl.1 (by rw [yb2]; rfl) (lv_room (Nat.le_of_ble_eq_true rfl)) dX11_at_5 ⟨f1, f2⟩) (fun H locs hH hS => ?_)
  replace z := ob z
  obtain ⟨u4, zu4, z⟩ := z
  refine c_castL S hG hH q1428 [9, 10, 11, 12, 13] cast_Value zu4 dX11_at_10 ?_
  refine c_aload_n hx hb dX11_at_13 rfl (lv_at hl 1 rfl) ?_
  replace z := ob z
  obtain ⟨x5, zx5, z⟩ := z
  refine c_vat S hG hH hS hRM q1429 hrc zx5 ⟨by dsimp only; omega, by dsimp only; omega⟩ hl.1 (Nat.le_of_ble_eq_true rfl) dX11_at_14 (fun H locs hH hS => ?_)
  refine lv_lstore_n (i := 2) (lv' := [(2, .long x5), (0, va_rf (some a0)), (1, va_rf a1)]) hx hb dX11_at_17 rfl hl (by decide) (by simp [List.filter, ct_r, ct_i, ct_l]) (fun ls hl => ?_)
  refine lv_iconst (v := (1 : Int32)) hx hb dX11_at_18 (by decide) ?_
  refine lv_istore (lv' := [(4, .int (1 : Int32)), (2, .long x5), (0, va_rf (some a0)), (1, va_rf a1)]) hx hb dX11_at_19 hl (by decide) rfl (fun ls hl => ?_)
  exact wX11_at_21 S hr hlk hnm hG hRM hfr hrc FU a1 x5 (1 : Int32) z _ _ hH hS _ (lv_sub hl [2, 3, 1, 0] rfl)
/-! FourOnOne$Pair.at(LFourOnOne$Moment;)J -/
def fX12_at_35 (K : KE) (h : HS) (a0 : Nat) (rc : Option Nat → Option Nat → Option Int64) (a2 : Int64) (a4 : Int64) (t0 : Int32) (t1 : Int32) : Option (Int64) :=
  if t0 = t1 then
    some a2
  else
  some a4
def fX12_at (K : KE) (h : HS) (rc : Option Nat → Option Nat → Option Int64) (a0 : Nat) (a1 : Option Nat) : Option (Int64) :=
  (gR K h (some a0) 10 1).bind fun v1 =>
  (rc v1 a1).bind fun x2 =>
  (gR K h (some a0) 10 2).bind fun v3 =>
  (rc v3 a1).bind fun x4 =>
  (gI K h (some a0) 10 0).bind fun v5 =>
  if x2 ≤ x4 then
    fX12_at_35 K h a0 rc x2 x4 v5 (0 : Int32)
  else
  fX12_at_35 K h a0 rc x2 x4 v5 (1 : Int32)
set_option maxHeartbeats 4000000 in
theorem wX12_at_35 {p : Program} {l : Launch} {e : Env} {s : State} {m : MethodId} {args : Array Value} {below : List Frame} {meth : Method} {c : Code} {A : Nat → Prop} {D : va_G} {ac : Nat → ClassId} {K : KE} {h : HS} {a0 : Nat} {fr lo : Nat} (S : CallFix p m c cX12_at 6 s args lw_all RX12) (hr : meth.sig.returnType = some .long) (hlk : meth.locks = false) (hnm : meth.name = "at") (hG : GK A D ac K s) (hRM : RM K s (rmC (fr + 1) (lo + 60) K h)) {rc : Option Nat → Option Nat → Option Int64} (hfr : 20 ≤ fr ∧ 400 ≤ lo) (hrc : VOK l A D ac K h fr lo rc) {x : Int64} : ∀ (a2 : Int64) (a4 : Int64) (t0 : Int32) (t1 : Int32), fX12_at_35 K h a0 rc a2 a4 t0 t1 = some x → cGo p l e (rmC (fr + 1) (lo + 60) K h) s m args below meth c A D ac K (MQ below (cQl A D ac K (h, x)) args s (K.2.2.1 - h.2.1) (K.2.2.2 - h.2.2) A) 6 35 [(0, va_rf (some a0)), (2, .long a2), (4, .long a4)] [.int t1, .int t0] h := by
  obtain ⟨hx, hb, hml, hown, hts⟩ := id S
  intro a2 a4 t0 t1 z H locs hH hS ls hl
  unfold fX12_at_35 at z
  refine lv_icmp_ne (tgt := 42) hx hb dX12_at_35 (by decide) (fun c1 => ?_) (fun c1 => ?_)
  · replace z := ie c1 z
    refine lv_lload hx hb dX12_at_42 (lv_at hl 2 rfl) ?_
    exact c_lret' S hr hlk hH hS z dX12_at_44
  replace z := it c1 z
  refine lv_lload_n hx hb dX12_at_38 rfl (lv_at hl 1 rfl) ?_
  refine lv_goto (tgt := 44) hx hb dX12_at_39 (by decide) ?_
  exact c_lret' S hr hlk hH hS z dX12_at_44
set_option maxHeartbeats 4000000 in
theorem metX12_at {l : Launch} {A : Nat → Prop} {D : va_G} {ac : Nat → ClassId} {K : KE} {h : HS} {fr lo : Nat} {rc : Option Nat → Option Nat → Option Int64} (hfr : 20 ≤ fr ∧ 400 ≤ lo) (hrc : VOK l A D ac K h fr lo rc) {a0 : Nat} {a1 : Option Nat} {x : Int64} (z : fX12_at K h rc a0 a1 = some x) : Met l yX12_at (ws_ yX12_at cX12_at 6 (some .long)) (rmC (fr + 1) (lo + 60) K h) (cP A D ac K h [va_rf (some a0), va_rf a1]) (cQl A D ac K (h, x)) (K.2.2.1 - h.2.1) (K.2.2.2 - h.2.2) A := by
  refine c_entry (plainFor_of_name (by decide)) (by simp [lg_sl, ct_r, ct_i, ct_l]) ?_
  intro p e s m below meth c S hr hlk hnm hG hRM hH hS ls hl
  replace hl : lv_has ls 6 [(0, va_rf (some a0)), (1, va_rf a1)] := (by simpa [lv_args, ct_r, ct_i, ct_l] using hl)
  replace hnm : meth.name = "at" := hnm
  replace S : CallFix p m c cX12_at 6 s _ lw_all RX12 := S
  obtain ⟨hx, hb, hml, hown, hts⟩ := id S
  unfold fX12_at at z
  refine c_aload_n hx hb dX12_at_0 rfl (lv_at hl 0 rfl) ?_
  replace z := ob z
  obtain ⟨v1, zv1, z⟩ := z
  obtain ⟨fsv1, yv1, zv1⟩ := gR_e zv1
  refine c_get S hG hH (ci := 10) (k := 1) rfl in_X12 (Nat.le_of_ble_eq_true rfl) q1064 (fun _ y => y) yv1 zv1 dX12_at_1 ?_
  refine c_aload_n hx hb dX12_at_4 rfl (lv_at hl 1 rfl) ?_
  replace z := ob z
  obtain ⟨x2, zx2, z⟩ := z
  refine c_vat S hG hH hS hRM q1437 hrc zx2 ⟨by dsimp only; omega, by dsimp only; omega⟩ hl.1 (Nat.le_of_ble_eq_true rfl) dX12_at_5 (fun H locs hH hS => ?_)
  refine lv_lstore_n (i := 2) (lv' := [(2, .long x2), (0, va_rf (some a0)), (1, va_rf a1)]) hx hb dX12_at_8 rfl hl (by decide) (by simp [List.filter, ct_r, ct_i, ct_l]) (fun ls hl => ?_)
  refine c_aload_n hx hb dX12_at_9 rfl (lv_at hl 1 rfl) ?_
  replace z := ob z
  obtain ⟨v3, zv3, z⟩ := z
  obtain ⟨fsv3, yv3, zv3⟩ := gR_e zv3
  refine c_get S hG hH (ci := 10) (k := 2) rfl in_X12 (Nat.le_of_ble_eq_true rfl) q1065 (fun _ y => y) yv3 zv3 dX12_at_10 ?_
  refine c_aload_n hx hb dX12_at_13 rfl (lv_at hl 2 rfl) ?_
  replace z := ob z
  obtain ⟨x4, zx4, z⟩ := z
  refine c_vat S hG hH hS hRM q1437 hrc zx4 ⟨by dsimp only; omega, by dsimp only; omega⟩ hl.1 (Nat.le_of_ble_eq_true rfl) dX12_at_14 (fun H locs hH hS => ?_)
  refine lv_lstore (lv' := [(4, .long x4), (2, .long x2), (0, va_rf (some a0)), (1, va_rf a1)]) hx hb dX12_at_17 hl (by decide) rfl (fun ls hl => ?_)
  refine c_aload_n hx hb dX12_at_19 rfl (lv_at hl 2 rfl) ?_
  replace z := ob z
  obtain ⟨v5, zv5, z⟩ := z
  obtain ⟨fsv5, yv5, zv5⟩ := gI_e zv5
  refine c_get S hG hH (ci := 10) (k := 0) rfl in_X12 (Nat.le_of_ble_eq_true rfl) q1063 (fun _ y => y) yv5 zv5 dX12_at_20 ?_
  refine lv_lload_n hx hb dX12_at_23 rfl (lv_at hl 1 rfl) ?_
  refine lv_lload hx hb dX12_at_24 (lv_at hl 0 rfl) ?_
  refine W.lcmp hx hb dX12_at_26 ?_
  refine lv_if_le (tgt := 34) hx hb dX12_at_27 (by decide) (fun c6 => ?_) (fun c6 => ?_)
  · replace z := it ((lg_cmp_le _ _).mp c6) z
    refine lv_iconst (v := (0 : Int32)) hx hb dX12_at_34 (by decide) ?_
    exact wX12_at_35 S hr hlk hnm hG hRM hfr hrc x2 x4 v5 (0 : Int32) z _ _ hH hS _ (lv_sub hl [2, 1, 0] rfl)
  replace z := ie (fun q => c6 ((lg_cmp_le _ _).mpr q)) z
  refine lv_iconst (v := (1 : Int32)) hx hb dX12_at_30 (by decide) ?_
  refine lv_goto (tgt := 35) hx hb dX12_at_31 (by decide) ?_
  exact wX12_at_35 S hr hlk hnm hG hRM hfr hrc x2 x4 v5 (1 : Int32) z _ _ hH hS _ (lv_sub hl [2, 1, 0] rfl)
/-! FourOnOne$Fixed.at(LFourOnOne$Moment;)J -/
def fX13_at (K : KE) (h : HS) (rc : Option Nat → Option Nat → Option Int64) (a0 : Nat) (a1 : Option Nat) : Option (Int64) :=
  (gL K h (some a0) 11 0).bind fun v1 =>
  some v1
set_option maxHeartbeats 4000000 in
theorem metX13_at {l : Launch} {A : Nat → Prop} {D : va_G} {ac : Nat → ClassId} {K : KE} {h : HS} {fr lo : Nat} {rc : Option Nat → Option Nat → Option Int64} (hfr : 20 ≤ fr ∧ 400 ≤ lo) (hrc : VOK l A D ac K h fr lo rc) {a0 : Nat} {a1 : Option Nat} {x : Int64} (z : fX13_at K h rc a0 a1 = some x) : Met l yX13_at (ws_ yX13_at cX13_at 2 (some .long)) (rmC (fr + 1) (lo + 60) K h) (cP A D ac K h [va_rf (some a0), va_rf a1]) (cQl A D ac K (h, x)) (K.2.2.1 - h.2.1) (K.2.2.2 - h.2.2) A := by
  refine c_entry (plainFor_of_name (by decide)) (by simp [lg_sl, ct_r, ct_i, ct_l]) ?_
  intro p e s m below meth c S hr hlk hnm hG hRM hH hS ls hl
  replace hl : lv_has ls 2 [(0, va_rf (some a0)), (1, va_rf a1)] := (by simpa [lv_args, ct_r, ct_i, ct_l] using hl)
  replace hnm : meth.name = "at" := hnm
  replace S : CallFix p m c cX13_at 2 s _ lw_all RX13 := S
  obtain ⟨hx, hb, hml, hown, hts⟩ := id S
  unfold fX13_at at z
  refine c_aload_n hx hb dX13_at_0 rfl (lv_at hl 0 rfl) ?_
  replace z := ob z
  obtain ⟨v1, zv1, z⟩ := z
  obtain ⟨fsv1, yv1, zv1⟩ := gL_e zv1
  refine c_get S hG hH (ci := 11) (k := 0) rfl in_X13 (Nat.le_of_ble_eq_true rfl) q1079 (fun _ y => y) yv1 zv1 dX13_at_1 ?_
  exact c_lret' S hr hlk hH hS z dX13_at_4
/-! FourOnOne$Asked.at(LFourOnOne$Moment;)J -/
def fX14_at (K : KE) (h : HS) (rc : Option Nat → Option Nat → Option Int64) (a0 : Nat) (a1 : Option Nat) : Option (Int64) :=
  (gR K h a1 4 0).bind fun v1 =>
  (gI K h (some a0) 12 0).bind fun v2 =>
  (cL K h v1 1 v2).bind fun v3 =>
  (fX0_held K h v3).bind fun x4 =>
  some x4
set_option maxHeartbeats 4000000 in
theorem metX14_at {l : Launch} {A : Nat → Prop} {D : va_G} {ac : Nat → ClassId} {K : KE} {h : HS} {fr lo : Nat} {rc : Option Nat → Option Nat → Option Int64} (hfr : 20 ≤ fr ∧ 400 ≤ lo) (hrc : VOK l A D ac K h fr lo rc) {a0 : Nat} {a1 : Option Nat} {x : Int64} (z : fX14_at K h rc a0 a1 = some x) : Met l yX14_at (ws_ yX14_at cX14_at 2 (some .long)) (rmC (fr + 1) (lo + 60) K h) (cP A D ac K h [va_rf (some a0), va_rf a1]) (cQl A D ac K (h, x)) (K.2.2.1 - h.2.1) (K.2.2.2 - h.2.2) A := by
  refine c_entry (plainFor_of_name (by decide)) (by simp [lg_sl, ct_r, ct_i, ct_l]) ?_
  intro p e s m below meth c S hr hlk hnm hG hRM hH hS ls hl
  replace hl : lv_has ls 2 [(0, va_rf (some a0)), (1, va_rf a1)] := (by simpa [lv_args, ct_r, ct_i, ct_l] using hl)
  replace hnm : meth.name = "at" := hnm
  replace S : CallFix p m c cX14_at 2 s _ lw_all RX14 := S
  obtain ⟨hx, hb, hml, hown, hts⟩ := id S
  unfold fX14_at at z
  refine c_aload_n hx hb dX14_at_0 rfl (lv_at hl 1 rfl) ?_
  replace z := ob z
  obtain ⟨v1, zv1, z⟩ := z
  obtain ⟨fsv1, yv1, zv1⟩ := gR_e zv1
  refine c_getN S hG hH (ci := 4) (k := 0) rfl in_X4 (Nat.le_of_ble_eq_true rfl) q414 (fun _ y => y) yv1 zv1 dX14_at_1 ?_
  refine c_aload_n hx hb dX14_at_4 rfl (lv_at hl 0 rfl) ?_
  replace z := ob z
  obtain ⟨v2, zv2, z⟩ := z
  obtain ⟨fsv2, yv2, zv2⟩ := gI_e zv2
  refine c_get S hG hH (ci := 12) (k := 0) rfl in_X14 (Nat.le_of_ble_eq_true rfl) q1091 (fun _ y => y) yv2 zv2 dX14_at_5 ?_
  replace z := ob z
  obtain ⟨v3, zv3, z⟩ := z
  refine c_lald S hG hH zv3 dX14_at_8 ?_
  replace z := ob z
  obtain ⟨x4, zx4, z⟩ := z
  refine c_calll hH hS hRM (fun _ _ f1 f2 => va_runSN (As := [.long v3]) (rest := []) S (metX0_held zx4) ⟨va_cnB 1 hts (lw_meth q1414) rfl rfl rfl (hG.2.1.2.1 _ _ _ _ q1412) (hts _ q167) (by decide +kernel) ⟨by dsimp only; omega, by dsimp only; omega⟩, hts _ q1413, trivial⟩ (c_pre hG hH hS) rfl rfl hl.1 rfl (lv_room (Nat.le_of_ble_eq_true rfl)) dX14_at_9 ⟨f1, f2⟩) (fun H locs hH hS => ?_)
  exact c_lret' S hr hlk hH hS z dX14_at_12
/-! FourOnOne$Looked.at(LFourOnOne$Moment;)J -/
def fX15_at (K : KE) (h : HS) (rc : Option Nat → Option Nat → Option Int64) (a0 : Nat) (a1 : Option Nat) : Option (Int64) :=
  (gR K h (some a0) 13 2).bind fun v1 =>
  (gI K h (some a0) 13 0).bind fun v2 =>
  (gR K h (some a0) 13 1).bind fun v3 =>
  (rc v3 a1).bind fun x4 =>
  (rcv K h v1 0).bind fun b5 =>
  (fX0_looked K h b5 v2 x4).bind fun x6 =>
  (fX0_held K h x6).bind fun x7 =>
  some x7
set_option maxHeartbeats 4000000 in
theorem metX15_at {l : Launch} {A : Nat → Prop} {D : va_G} {ac : Nat → ClassId} {K : KE} {h : HS} {fr lo : Nat} {rc : Option Nat → Option Nat → Option Int64} (hfr : 20 ≤ fr ∧ 400 ≤ lo) (hrc : VOK l A D ac K h fr lo rc) {a0 : Nat} {a1 : Option Nat} {x : Int64} (z : fX15_at K h rc a0 a1 = some x) : Met l yX15_at (ws_ yX15_at cX15_at 2 (some .long)) (rmC (fr + 1) (lo + 60) K h) (cP A D ac K h [va_rf (some a0), va_rf a1]) (cQl A D ac K (h, x)) (K.2.2.1 - h.2.1) (K.2.2.2 - h.2.2) A := by
  refine c_entry (plainFor_of_name (by decide)) (by simp [lg_sl, ct_r, ct_i, ct_l]) ?_
  intro p e s m below meth c S hr hlk hnm hG hRM hH hS ls hl
  replace hl : lv_has ls 2 [(0, va_rf (some a0)), (1, va_rf a1)] := (by simpa [lv_args, ct_r, ct_i, ct_l] using hl)
  replace hnm : meth.name = "at" := hnm
  replace S : CallFix p m c cX15_at 2 s _ lw_all RX15 := S
  obtain ⟨hx, hb, hml, hown, hts⟩ := id S
  unfold fX15_at at z
  refine c_aload_n hx hb dX15_at_0 rfl (lv_at hl 0 rfl) ?_
  replace z := ob z
  obtain ⟨v1, zv1, z⟩ := z
  obtain ⟨fsv1, yv1, zv1⟩ := gR_e zv1
  refine c_get S hG hH (ci := 13) (k := 2) rfl in_X15 (Nat.le_of_ble_eq_true rfl) q1109 (fun _ y => y) yv1 zv1 dX15_at_1 ?_
  refine c_aload_n hx hb dX15_at_4 rfl (lv_at hl 0 rfl) ?_
  replace z := ob z
  obtain ⟨v2, zv2, z⟩ := z
  obtain ⟨fsv2, yv2, zv2⟩ := gI_e zv2
  refine c_get S hG hH (ci := 13) (k := 0) rfl in_X15 (Nat.le_of_ble_eq_true rfl) q1107 (fun _ y => y) yv2 zv2 dX15_at_5 ?_
  refine c_aload_n hx hb dX15_at_8 rfl (lv_at hl 0 rfl) ?_
  replace z := ob z
  obtain ⟨v3, zv3, z⟩ := z
  obtain ⟨fsv3, yv3, zv3⟩ := gR_e zv3
  refine c_get S hG hH (ci := 13) (k := 1) rfl in_X15 (Nat.le_of_ble_eq_true rfl) q1108 (fun _ y => y) yv3 zv3 dX15_at_9 ?_
  refine c_aload_n hx hb dX15_at_12 rfl (lv_at hl 1 rfl) ?_
  replace z := ob z
  obtain ⟨x4, zx4, z⟩ := z
  refine c_vat S hG hH hS hRM q1434 hrc zx4 ⟨by dsimp only; omega, by dsimp only; omega⟩ hl.1 (by simp [ct_r, ct_i, ct_l]) dX15_at_13 (fun H locs hH hS => ?_)
  replace z := ob z
  obtain ⟨b5, zb5, z⟩ := z
  obtain ⟨yb5, zb5⟩ := rcv_e zb5
  replace z := ob z
  obtain ⟨x6, zx6, z⟩ := z
  refine c_calll hH hS hRM (fun _ _ f1 f2 => va_runVN (b := b5) (As := [.int v2, .long x4]) (rest := []) S (metX0_looked zx6) ⟨va_cnB 2 hts (lw_meth q1441) rfl rfl rfl (hG.2.1.2.1 _ _ _ _ q1438) (hts _ q167) (by decide +kernel) ⟨by dsimp only; omega, by dsimp only; omega⟩, hts _ q1440, hts _ qs45⟩ (c_preV hG hH hS (ci := 0) rfl zb5) rfl rfl hl.1 (by rw [yb5]; rfl) (lv_room (Nat.le_of_ble_eq_true rfl)) dX15_at_16 ⟨f1, f2⟩) (fun H locs hH hS => ?_)
  replace z := ob z
  obtain ⟨x7, zx7, z⟩ := z
  refine c_calll hH hS hRM (fun _ _ f1 f2 => va_runSN (As := [.long x6]) (rest := []) S (metX0_held zx7) ⟨va_cnB 1 hts (lw_meth q1414) rfl rfl rfl (hG.2.1.2.1 _ _ _ _ q1442) (hts _ q167) (by decide +kernel) ⟨by dsimp only; omega, by dsimp only; omega⟩, hts _ q1413, trivial⟩ (c_pre hG hH hS) rfl rfl hl.1 rfl (lv_room (Nat.le_of_ble_eq_true rfl)) dX15_at_19 ⟨f1, f2⟩) (fun H locs hH hS => ?_)
  exact c_lret' S hr hlk hH hS z dX15_at_22

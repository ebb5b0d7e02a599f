set_option maxRecDepth 100000
/-! FourOnOne$Reader.looked(I)LFourOnOne$Value; -/
def fX2_looked (K : KE) (h : HS) (rs : Nat → HS → Nat → Option (HS × (Nat ⊕ Option Nat))) (a0 : Nat) (a1 : Int32) : Option (HS × (Nat ⊕ Option Nat)) :=
  (gI K h (some a0) 2 3).bind fun v1 =>
  (rcv K h (some a0) 2).bind fun b2 =>
  (fX2_opens K h b2 v1).bind fun x3 =>
  tb x3 (fun q4 => some (x3.1, .inl q4)) fun v5 =>
  (alc K x3.1 (.inr (13, df13)) 3).bind fun h7 =>
  (gR K h7 (some a0) 2 7).bind fun v8 =>
  (rcv K h7 (some a0) 2).bind fun b9 =>
  (rs 1 h7 b9).bind fun x10 =>
  tb x10 (fun q11 => some (x10.1, .inl q11)) fun v12 =>
  (fX15_init K x10.1 x3.1.2.1 v8 a1 v12).bind fun x14 =>
  (gI K x14 (some a0) 2 4).bind fun v15 =>
  (pV x14 (some a0) 2 4 (.int (v15 - (1 : Int32)))).bind fun h16 =>
  some (h16, .inr (some x3.1.2.1))
set_option maxHeartbeats 4000000 in
theorem metX2_looked {l : Launch} {A : Nat → Prop} {D : va_G} {ac : Nat → ClassId} {K : KE} {h : HS} {fr lo : Nat} {rs : Nat → HS → Nat → Option (HS × (Nat ⊕ Option Nat))} (hfr : 60 ≤ fr ∧ 1000 ≤ lo) (hrc : ROK l A D ac K fr lo rs) {a0 : Nat} {a1 : Int32} {x : HS × (Nat ⊕ Option Nat)} (z : fX2_looked K h rs a0 a1 = some x) : vy_Met l yX2_looked (ws_ yX2_looked cX2_looked 3 (some (.object "FourOnOne$Value"))) (rmC (fr + 11) (lo + 620) K h) (cP A D ac K h [va_rf (some a0), .int a1]) (tQq A D ac K x) (tX A D ac K x) (K.2.2.1 - h.2.1) (K.2.2.2 - h.2.2) A := by
  refine t_entry (by decide) (Nat.le_of_ble_eq_true rfl) ?_
  intro p e s m below meth c S hr hlk hnm hEx hG hRM hH hS ls hl
  replace hl : lv_has ls 3 [(0, va_rf (some a0)), (1, .int a1)] := hl
  replace hnm : meth.name = "looked" := hnm
  replace S : CallFix p m c cX2_looked 3 s _ lw_all RX2 := S
  obtain ⟨hx, hb, hml, hown, hts⟩ := id S
  unfold fX2_looked at z
  refine c_aload_n hx hb dX2_looked_0 rfl (lv_at hl 0 rfl) ?_
  refine c_aload_n hx hb dX2_looked_1 rfl (lv_at hl 0 rfl) ?_
  replace z := ob z
  obtain ⟨v1, zv1, z⟩ := z
  obtain ⟨fsv1, yv1, zv1⟩ := gI_e zv1
  refine c_get S hG hH (ci := 2) (k := 3) rfl in_X2 (Nat.le_of_ble_eq_true rfl) q385 (fun _ y => y) yv1 zv1 dX2_looked_2 ?_
  replace z := ob z
  obtain ⟨b2, zb2, z⟩ := z
  obtain ⟨yb2, zb2⟩ := rcv_e zb2
  replace z := ob z
  obtain ⟨x3, zx3, z⟩ := z
  refine t_callv hH hS hRM (fun _ _ f1 f2 => vy_runV (b := b2) (As := [.int v1]) (rest := []) S (metX2_opens zx3) (cwV 1 hts (lw_V q1049 q1051 qs27 q172 q1052) rfl rfl rfl (by decide +kernel) ⟨by dsimp only; omega, by dsimp only; omega⟩) (c_preV hG hH hS (ci := 2) rfl zb2) rfl rfl hl.1 (by rw [yb2]; rfl) (lv_room (Nat.le_of_ble_eq_true rfl)) dX2_looked_5 ⟨f1, f2⟩) (fun q4 H locs ce e6 hH hS g1 g2 g3 => ?_) (fun v5 H locs e6 hH hS => ?_)
  · replace z := tb_l e6 z
    exact t_prop hEx hlk hH hS g1 g2 g3 z
  replace z := tb_r e6 z
  replace z := ob z
  obtain ⟨h7, zh7, z⟩ := z
  refine c_new S hG hH hS hRM (ci := 13) rfl in_X15 tyX15 tyX15_ok q1101 q1102 q199 df13_ok zh7 dX2_looked_8 (fun H locs hH hS => ?_)
  refine lv_dup hx hb dX2_looked_11 (ct_r _) ?_
  refine c_aload_n hx hb dX2_looked_12 rfl (lv_at hl 0 rfl) ?_
  replace z := ob z
  obtain ⟨v8, zv8, z⟩ := z
  obtain ⟨fsv8, yv8, zv8⟩ := gR_e zv8
  refine c_get S hG hH (ci := 2) (k := 7) rfl in_X2 (Nat.le_of_ble_eq_true rfl) q389 (fun _ y => y) yv8 zv8 dX2_looked_13 ?_
  refine lv_iload_n hx hb dX2_looked_16 rfl (lv_at hl 1 rfl) ?_
  refine c_aload_n hx hb dX2_looked_17 rfl (lv_at hl 0 rfl) ?_
  replace z := ob z
  obtain ⟨b9, zb9, z⟩ := z
  obtain ⟨yb9, zb9⟩ := rcv_e zb9
  replace z := ob z
  obtain ⟨x10, zx10, z⟩ := z
  refine t_callq hH hS hRM (fun _ _ f1 f2 => vy_runV (b := b9) (As := []) (rest := [.int a1, va_rf v8, va_rf (some x3.1.2.1), va_rf (some x3.1.2.1)]) S (ROK1 hrc zx10) (cwV 0 hts (lw_V q1041 q1043 qs25 q172 q1044) rfl rfl rfl (by decide +kernel) ⟨by dsimp only; omega, by dsimp only; omega⟩) (c_preV hG hH hS (ci := 2) rfl zb9) rfl rfl hl.1 (by rw [yb9]; rfl) (lv_room (by simp [ct_r, ct_i, ct_l])) dX2_looked_18 ⟨f1, f2⟩) (fun q11 H locs ce e13 hH hS g1 g2 g3 => ?_) (fun v12 H locs e13 hH hS => ?_)
  · replace z := tb_l e13 z
    exact t_prop hEx hlk hH hS g1 g2 g3 z
  replace z := tb_r e13 z
  replace z := ob z
  obtain ⟨x14, zx14, z⟩ := z
  refine c_callv hH hS hRM (fun _ _ f1 f2 => va_runI (b := x3.1.2.1) (As := [va_rf v8, .int a1, va_rf v12]) (rest := [va_rf (some x3.1.2.1)]) S (metX15_init zx14) (cwI 3 hts (lw_meth q1105) rfl rfl rfl (hts _ q199) (hts _ q1103) (hts _ q1104) rfl (by decide +kernel) ⟨by dsimp only; omega, by dsimp only; omega⟩) (c_pre hG hH hS) rfl rfl hl.1 rfl (lv_room (by simp [ct_r, ct_i, ct_l])) dX2_looked_21 ⟨f1, f2⟩) (fun H locs hH hS => ?_)
  refine c_astore_n (lv' := [(2, va_rf (some x3.1.2.1)), (0, va_rf (some a0)), (1, .int a1)]) hx hb dX2_looked_24 rfl hl (by decide) rfl (fun ls hl => ?_)
  refine c_aload_n hx hb dX2_looked_25 rfl (lv_at hl 1 rfl) ?_
  refine lv_dup hx hb dX2_looked_26 rfl ?_
  replace z := ob z
  obtain ⟨v15, zv15, z⟩ := z
  obtain ⟨fsv15, yv15, zv15⟩ := gI_e zv15
  refine c_get S hG hH (ci := 2) (k := 4) rfl in_X2 (Nat.le_of_ble_eq_true rfl) q386 (fun _ y => y) yv15 zv15 dX2_looked_27 ?_
  refine lv_iconst (v := (1 : Int32)) hx hb dX2_looked_30 (by decide) ?_
  refine lv_isub hx hb dX2_looked_31 ?_
  replace z := ob z
  obtain ⟨h16, zh16, z⟩ := z
  refine c_put S hG hH hS (ci := 2) (k := 4) rfl in_X2 tyX2 tyX2_ok nmX2 (Nat.le_of_ble_eq_true rfl) q386 (fun _ y => y) rfl (ty := .int) rfl rfl rfl zh16 dX2_looked_32 (fun H locs hH hS => ?_)
  refine c_aload_n hx hb dX2_looked_35 rfl (lv_at hl 0 rfl) ?_
  exact t_aret S hr (Or.inl ⟨_, rfl⟩) hlk hH hS z dX2_looked_36
/-! FourOnOne$Reader.within(I)LFourOnOne$Value; -/
def fX2_within_77 (K : KE) (a0 : Nat) (rs : Nat → HS → Nat → Option (HS × (Nat ⊕ Option Nat))) (h : HS) (a3 : Option Nat) : Option (HS × (Nat ⊕ Option Nat)) :=
  (rcv K h (some a0) 2).bind fun b1 =>
  (fX2_must K h b1 (41 : Int32)).bind fun x2 =>
  tb x2 (fun q3 => some (x2.1, .inl q3)) fun v4 =>
  (gI K x2.1 (some a0) 2 4).bind fun v6 =>
  (pV x2.1 (some a0) 2 4 (.int (v6 - (1 : Int32)))).bind fun h7 =>
  some (h7, .inr a3)
def fX2_within_68 (K : KE) (a0 : Nat) (rs : Nat → HS → Nat → Option (HS × (Nat ⊕ Option Nat))) (h : HS) (a2 : Option Nat) (t0 : Option Nat) (t1 : Option Nat) (t2 : Int32) : Option (HS × (Nat ⊕ Option Nat)) :=
  (rcv K h (some a0) 2).bind fun b1 =>
  (rs 0 h b1).bind fun x2 =>
  tb x2 (fun q3 => some (x2.1, .inl q3)) fun v4 =>
  (t1).bind fun b6 =>
  (fX12_init K x2.1 b6 t2 a2 v4).bind fun x7 =>
  fX2_within_77 K a0 rs x7 t0
def fX2_within (K : KE) (h : HS) (rs : Nat → HS → Nat → Option (HS × (Nat ⊕ Option Nat))) (a0 : Nat) (a1 : Int32) : Option (HS × (Nat ⊕ Option Nat)) :=
  (rcv K h (some a0) 2).bind fun b1 =>
  (fX2_here K h b1).bind fun x2 =>
  if x2.2 = (40 : Int32) then
    (gI K x2.1 (some a0) 2 2).bind fun v4 =>
    (rcv K x2.1 (some a0) 2).bind fun b5 =>
    (fX2_opens K x2.1 b5 v4).bind fun x6 =>
    tb x6 (fun q7 => some (x6.1, .inl q7)) fun v8 =>
    (gI K x6.1 (some a0) 2 2).bind fun v10 =>
    (pV x6.1 (some a0) 2 2 (.int (v10 + (1 : Int32)))).bind fun h11 =>
    (rcv K h11 (some a0) 2).bind fun b12 =>
    (rs 0 h11 b12).bind fun x13 =>
    tb x13 (fun q14 => some (x13.1, .inl q14)) fun v15 =>
    if a1 ≤ 0 then
      fX2_within_77 K a0 rs x13.1 v15
    else
    (rcv K x13.1 (some a0) 2).bind fun b18 =>
    (fX2_must K x13.1 b18 (44 : Int32)).bind fun x19 =>
    tb x19 (fun q20 => some (x19.1, .inl q20)) fun v21 =>
    (alc K x19.1 (.inr (10, df10)) 3).bind fun h23 =>
    if a1 = (2 : Int32) then
      fX2_within_68 K a0 rs h23 v15 (some x19.1.2.1) (some x19.1.2.1) (1 : Int32)
    else
    fX2_within_68 K a0 rs h23 v15 (some x19.1.2.1) (some x19.1.2.1) (0 : Int32)
  else
  (gI K x2.1 (some a0) 2 2).bind fun v25 =>
  (rcv K x2.1 (some a0) 2).bind fun b26 =>
  (fX2_wrong K x2.1 b26 (1 : Int32) v25).bind fun x27 =>
  (rcv K x27.1 x27.2 3).bind fun q28 =>
  some (x27.1, .inl q28)
set_option maxHeartbeats 4000000 in
theorem wX2_within_77 {p : Program} {l : Launch} {e : Env} {s : State} {m : MethodId} {args : Array Value} {below : List Frame} {meth : Method} {c : Code} {A : Nat → Prop} {D : va_G} {ac : Nat → ClassId} {K : KE} {h0 : HS} {a0 : Nat} {fr lo : Nat} (S : CallFix p m c cX2_within 4 s args lw_all RX2) (hr : meth.sig.returnType = some (.object "FourOnOne$Value")) (hlk : meth.locks = false) (hnm : meth.name = "within") (hEx : ∀ x ∈ c.exceptionTable.toList, False) (hG : GK A D ac K s) (hRM : RM K s (rmC (fr + 11) (lo + 620) K h0)) {rs : Nat → HS → Nat → Option (HS × (Nat ⊕ Option Nat))} (hfr : 60 ≤ fr ∧ 1000 ≤ lo) (hrc : ROK l A D ac K fr lo rs) {x : HS × (Nat ⊕ Option Nat)} : ∀ (h : HS) (a3 : Option Nat), fX2_within_77 K a0 rs h a3 = some x → cGo p l e (rmC (fr + 11) (lo + 620) K h0) s m args below meth c A D ac K (vy_MQ below (tQq A D ac K x) (tX A D ac K x) args s (K.2.2.1 - h0.2.1) (K.2.2.2 - h0.2.2) A) 4 77 [(0, va_rf (some a0)), (3, va_rf a3)] [] h := by
  obtain ⟨hx, hb, hml, hown, hts⟩ := id S
  intro h a3 z H locs hH hS ls hl
  unfold fX2_within_77 at z
  refine c_aload_n hx hb dX2_within_77 rfl (lv_at hl 0 rfl) ?_
  refine lv_bipush (v := (41 : Int32)) hx hb dX2_within_78 (by decide) ?_
  replace z := ob z
  obtain ⟨b1, zb1, z⟩ := z
  obtain ⟨yb1, zb1⟩ := rcv_e zb1
  replace z := ob z
  obtain ⟨x2, zx2, z⟩ := z
  refine t_callv hH hS hRM (fun _ _ f1 f2 => vy_runV (b := b1) (As := [.int (41 : Int32)]) (rest := []) S (metX2_must zx2) (cwV 1 hts (lw_V q1053 q1055 qs28 q172 q1056) rfl rfl rfl (by decide +kernel) ⟨by dsimp only; omega, by dsimp only; omega⟩) (c_preV hG hH hS (ci := 2) rfl zb1) rfl rfl hl.1 (by rw [yb1]; rfl) (lv_room (Nat.le_of_ble_eq_true rfl)) dX2_within_80 ⟨f1, f2⟩) (fun q3 H locs ce e5 hH hS g1 g2 g3 => ?_) (fun v4 H locs e5 hH hS => ?_)
  · replace z := tb_l e5 z
    exact t_prop hEx hlk hH hS g1 g2 g3 z
  replace z := tb_r e5 z
  refine c_aload_n hx hb dX2_within_83 rfl (lv_at hl 0 rfl) ?_
  refine lv_dup hx hb dX2_within_84 rfl ?_
  replace z := ob z
  obtain ⟨v6, zv6, z⟩ := z
  obtain ⟨fsv6, yv6, zv6⟩ := gI_e zv6
  refine c_get S hG hH (ci := 2) (k := 4) rfl in_X2 (Nat.le_of_ble_eq_true rfl) q386 (fun _ y => y) yv6 zv6 dX2_within_85 ?_
  refine lv_iconst (v := (1 : Int32)) hx hb dX2_within_88 (by decide) ?_
  refine lv_isub hx hb dX2_within_89 ?_
  replace z := ob z
  obtain ⟨h7, zh7, z⟩ := z
  refine c_put S hG hH hS (ci := 2) (k := 4) rfl in_X2 tyX2 tyX2_ok nmX2 (Nat.le_of_ble_eq_true rfl) q386 (fun _ y => y) rfl (ty := .int) rfl rfl rfl zh7 dX2_within_90 (fun H locs hH hS => ?_)
  refine c_aload_n hx hb dX2_within_93 rfl (lv_at hl 1 rfl) ?_
  exact t_aret S hr (Or.inl ⟨_, rfl⟩) hlk hH hS z dX2_within_94
set_option maxHeartbeats 4000000 in
theorem wX2_within_68 {p : Program} {l : Launch} {e : Env} {s : State} {m : MethodId} {args : Array Value} {below : List Frame} {meth : Method} {c : Code} {A : Nat → Prop} {D : va_G} {ac : Nat → ClassId} {K : KE} {h0 : HS} {a0 : Nat} {fr lo : Nat} (S : CallFix p m c cX2_within 4 s args lw_all RX2) (hr : meth.sig.returnType = some (.object "FourOnOne$Value")) (hlk : meth.locks = false) (hnm : meth.name = "within") (hEx : ∀ x ∈ c.exceptionTable.toList, False) (hG : GK A D ac K s) (hRM : RM K s (rmC (fr + 11) (lo + 620) K h0)) {rs : Nat → HS → Nat → Option (HS × (Nat ⊕ Option Nat))} (hfr : 60 ≤ fr ∧ 1000 ≤ lo) (hrc : ROK l A D ac K fr lo rs) {x : HS × (Nat ⊕ Option Nat)} : ∀ (h : HS) (a2 : Option Nat) (t0 : Option Nat) (t1 : Option Nat) (t2 : Int32), fX2_within_68 K a0 rs h a2 t0 t1 t2 = some x → cGo p l e (rmC (fr + 11) (lo + 620) K h0) s m args below meth c A D ac K (vy_MQ below (tQq A D ac K x) (tX A D ac K x) args s (K.2.2.1 - h0.2.1) (K.2.2.2 - h0.2.2) A) 4 68 [(0, va_rf (some a0)), (2, va_rf a2)] [.int t2, va_rf t1, va_rf t0] h := by
  obtain ⟨hx, hb, hml, hown, hts⟩ := id S
  intro h a2 t0 t1 t2 z H locs hH hS ls hl
  unfold fX2_within_68 at z
  refine c_aload_n hx hb dX2_within_68 rfl (lv_at hl 1 rfl) ?_
  refine c_aload_n hx hb dX2_within_69 rfl (lv_at hl 0 rfl) ?_
  replace z := ob z
  obtain ⟨b1, zb1, z⟩ := z
  obtain ⟨yb1, zb1⟩ := rcv_e zb1
  replace z := ob z
  obtain ⟨x2, zx2, z⟩ := z
  refine t_callq hH hS hRM (fun _ _ f1 f2 => vy_runV (b := b1) (As := []) (rest := [va_rf a2, .int t2, va_rf t1, va_rf t0]) S (ROK0 hrc zx2) (cwV 0 hts (lw_V q992 q994 qs23 q172 q995) rfl rfl rfl (by decide +kernel) ⟨by dsimp only; omega, by dsimp only; omega⟩) (c_preV hG hH hS (ci := 2) rfl zb1) rfl rfl hl.1 (by rw [yb1]; rfl) (lv_room (by simp [ct_r, ct_i, ct_l])) dX2_within_70 ⟨f1, f2⟩) (fun q3 H locs ce e5 hH hS g1 g2 g3 => ?_) (fun v4 H locs e5 hH hS => ?_)
  · replace z := tb_l e5 z
    exact t_prop hEx hlk hH hS g1 g2 g3 z
  replace z := tb_r e5 z
  replace z := ob z
  obtain ⟨b6, zb6, z⟩ := z
  replace z := ob z
  obtain ⟨x7, zx7, z⟩ := z
  refine c_callv hH hS hRM (fun _ _ f1 f2 => va_runI (b := b6) (As := [.int t2, va_rf a2, va_rf v4]) (rest := [va_rf t0]) S (metX12_init zx7) (cwI 3 hts (lw_meth q1061) rfl rfl rfl (hts _ q196) (hts _ q1059) (hts _ q1060) rfl (by decide +kernel) ⟨by dsimp only; omega, by dsimp only; omega⟩) (c_pre hG hH hS) rfl rfl hl.1 (by rw [zb6]; rfl) (lv_room (by simp [ct_r, ct_i, ct_l])) dX2_within_73 ⟨f1, f2⟩) (fun H locs hH hS => ?_)
  refine c_astore_n (i := 3) (lv' := [(3, va_rf t0), (0, va_rf (some a0)), (2, va_rf a2)]) hx hb dX2_within_76 rfl hl (by decide) (by simp [List.filter, ct_r, ct_i, ct_l]) (fun ls hl => ?_)
  exact wX2_within_77 S hr hlk hnm hEx hG hRM hfr hrc x7 t0 z _ _ hH hS _ (lv_sub hl [1, 0] rfl)
set_option maxHeartbeats 4000000 in
theorem metX2_within {l : Launch} {A : Nat → Prop} {D : va_G} {ac : Nat → ClassId} {K : KE} {h : HS} {fr lo : Nat} {rs : Nat → HS → Nat → Option (HS × (Nat ⊕ Option Nat))} (hfr : 60 ≤ fr ∧ 1000 ≤ lo) (hrc : ROK l A D ac K fr lo rs) {a0 : Nat} {a1 : Int32} {x : HS × (Nat ⊕ Option Nat)} (z : fX2_within K h rs a0 a1 = some x) : vy_Met l yX2_within (ws_ yX2_within cX2_within 4 (some (.object "FourOnOne$Value"))) (rmC (fr + 11) (lo + 620) K h) (cP A D ac K h [va_rf (some a0), .int a1]) (tQq A D ac K x) (tX A D ac K x) (K.2.2.1 - h.2.1) (K.2.2.2 - h.2.2) A := by
  refine t_entry (by decide) (Nat.le_of_ble_eq_true rfl) ?_
  intro p e s m below meth c S hr hlk hnm hEx hG hRM hH hS ls hl
  replace hl : lv_has ls 4 [(0, va_rf (some a0)), (1, .int a1)] := hl
  replace hnm : meth.name = "within" := hnm
  replace S : CallFix p m c cX2_within 4 s _ lw_all RX2 := S
  obtain ⟨hx, hb, hml, hown, hts⟩ := id S
  unfold fX2_within at z
  refine c_aload_n hx hb dX2_within_0 rfl (lv_at hl 0 rfl) ?_
  replace z := ob z
  obtain ⟨b1, zb1, z⟩ := z
  obtain ⟨yb1, zb1⟩ := rcv_e zb1
  replace z := ob z
  obtain ⟨x2, zx2, z⟩ := z
  refine c_calli hH hS hRM (fun _ _ f1 f2 => va_runV (b := b1) (As := []) (rest := []) S (metX2_here zx2) (cwV 0 hts (lw_V q579 q581 qs4 q172 q582) rfl rfl rfl (by decide +kernel) ⟨by dsimp only; omega, by dsimp only; omega⟩) (c_preV hG hH hS (ci := 2) rfl zb1) rfl rfl hl.1 (by rw [yb1]; rfl) (lv_room (Nat.le_of_ble_eq_true rfl)) dX2_within_1 ⟨f1, f2⟩) (fun H locs hH hS => ?_)
  refine lv_bipush (v := (40 : Int32)) hx hb dX2_within_4 (by decide) ?_
  refine lv_icmp_eq (tgt := 19) hx hb dX2_within_6 (by decide) (fun c3 => ?_) (fun c3 => ?_)
  rotate_left 1
  · replace z := ie c3 z
    refine c_aload_n hx hb dX2_within_9 rfl (lv_at hl 0 rfl) ?_
    refine lv_iconst (v := (1 : Int32)) hx hb dX2_within_10 (by decide) ?_
    refine c_aload_n hx hb dX2_within_11 rfl (lv_at hl 0 rfl) ?_
    replace z := ob z
    obtain ⟨v25, zv25, z⟩ := z
    obtain ⟨fsv25, yv25, zv25⟩ := gI_e zv25
    refine c_get S hG hH (ci := 2) (k := 2) rfl in_X2 (Nat.le_of_ble_eq_true rfl) q384 (fun _ y => y) yv25 zv25 dX2_within_12 ?_
    replace z := ob z
    obtain ⟨b26, zb26, z⟩ := z
    obtain ⟨yb26, zb26⟩ := rcv_e zb26
    replace z := ob z
    obtain ⟨x27, zx27, z⟩ := z
    refine c_callq hH hS hRM (fun _ _ f1 f2 => va_runV (b := b26) (As := [.int (1 : Int32), .int v25]) (rest := []) S (metX2_wrong zx27) (cwV 2 hts (lw_V q591 q593 qs7 q172 q594) rfl rfl rfl (by decide +kernel) ⟨by dsimp only; omega, by dsimp only; omega⟩) (c_preV hG hH hS (ci := 2) rfl zb26) rfl rfl hl.1 (by rw [yb26]; rfl) (lv_room (Nat.le_of_ble_eq_true rfl)) dX2_within_15 ⟨f1, f2⟩) (fun H locs hH hS => ?_)
    replace z := ob z
    obtain ⟨q28, zq28, z⟩ := z
    exact t_throw S hG hEx hlk zq28 hH hS z dX2_within_18
  replace z := it c3 z
  refine c_aload_n hx hb dX2_within_19 rfl (lv_at hl 0 rfl) ?_
  refine c_aload_n hx hb dX2_within_20 rfl (lv_at hl 0 rfl) ?_
  replace z := ob z
  obtain ⟨v4, zv4, z⟩ := z
  obtain ⟨fsv4, yv4, zv4⟩ := gI_e zv4
  refine c_get S hG hH (ci := 2) (k := 2) rfl in_X2 (Nat.le_of_ble_eq_true rfl) q384 (fun _ y => y) yv4 zv4 dX2_within_21 ?_
  replace z := ob z
  obtain ⟨b5, zb5, z⟩ := z
  obtain ⟨yb5, zb5⟩ := rcv_e zb5
  replace z := ob z
  obtain ⟨x6, zx6, z⟩ := z
  refine t_callv hH hS hRM (fun _ _ f1 f2 => vy_runV (b := b5) (As := [.int v4]) (rest := []) S (metX2_opens zx6) (cwV 1 hts (lw_V q1049 q1051 qs27 q172 q1052) rfl rfl rfl (by decide +kernel) ⟨by dsimp only; omega, by dsimp only; omega⟩) (c_preV hG hH hS (ci := 2) rfl zb5) rfl rfl hl.1 (by rw [yb5]; rfl) (lv_room (Nat.le_of_ble_eq_true rfl)) dX2_within_24 ⟨f1, f2⟩) (fun q7 H locs ce e9 hH hS g1 g2 g3 => ?_) (fun v8 H locs e9 hH hS => ?_)
  · replace z := tb_l e9 z
    exact t_prop hEx hlk hH hS g1 g2 g3 z
  replace z := tb_r e9 z
  refine c_aload_n hx hb dX2_within_27 rfl (lv_at hl 0 rfl) ?_
  refine lv_dup hx hb dX2_within_28 rfl ?_
  replace z := ob z
  obtain ⟨v10, zv10, z⟩ := z
  obtain ⟨fsv10, yv10, zv10⟩ := gI_e zv10
  refine c_get S hG hH (ci := 2) (k := 2) rfl in_X2 (Nat.le_of_ble_eq_true rfl) q384 (fun _ y => y) yv10 zv10 dX2_within_29 ?_
  refine lv_iconst (v := (1 : Int32)) hx hb dX2_within_32 (by decide) ?_
  refine lv_iadd hx hb dX2_within_33 ?_
  replace z := ob z
  obtain ⟨h11, zh11, z⟩ := z
  refine c_put S hG hH hS (ci := 2) (k := 2) rfl in_X2 tyX2 tyX2_ok nmX2 (Nat.le_of_ble_eq_true rfl) q384 (fun _ y => y) rfl (ty := .int) rfl rfl rfl zh11 dX2_within_34 (fun H locs hH hS => ?_)
  refine c_aload_n hx hb dX2_within_37 rfl (lv_at hl 0 rfl) ?_
  replace z := ob z
  obtain ⟨b12, zb12, z⟩ := z
  obtain ⟨yb12, zb12⟩ := rcv_e zb12
  replace z := ob z
  obtain ⟨x13, zx13, z⟩ := z
  refine t_callq hH hS hRM (fun _ _ f1 f2 => vy_runV (b := b12) (As := []) (rest := []) S (ROK0 hrc zx13) (cwV 0 hts (lw_V q992 q994 qs23 q172 q995) rfl rfl rfl (by decide +kernel) ⟨by dsimp only; omega, by dsimp only; omega⟩) (c_preV hG hH hS (ci := 2) rfl zb12) rfl rfl hl.1 (by rw [yb12]; rfl) (lv_room (Nat.le_of_ble_eq_true rfl)) dX2_within_38 ⟨f1, f2⟩) (fun q14 H locs ce e16 hH hS g1 g2 g3 => ?_) (fun v15 H locs e16 hH hS => ?_)
  · replace z := tb_l e16 z
    exact t_prop hEx hlk hH hS g1 g2 g3 z
  replace z := tb_r e16 z
  refine c_astore_n (lv' := [(2, va_rf v15), (0, va_rf (some a0)), (1, .int a1)]) hx hb dX2_within_41 rfl hl (by decide) rfl (fun ls hl => ?_)
  refine c_aload_n hx hb dX2_within_42 rfl (lv_at hl 0 rfl) ?_
  refine c_astore_n (i := 3) (lv' := [(3, va_rf v15), (2, va_rf v15), (0, va_rf (some a0)), (1, .int a1)]) hx hb dX2_within_43 rfl hl (by decide) (by simp [List.filter, ct_r, ct_i, ct_l]) (fun ls hl => ?_)
  refine lv_iload_n hx hb dX2_within_44 rfl (lv_at hl 3 rfl) ?_
  refine lv_if_le (tgt := 77) hx hb dX2_within_45 (by decide) (fun c17 => ?_) (fun c17 => ?_)
  · replace z := it c17 z
    exact wX2_within_77 S hr hlk hnm hEx hG hRM hfr hrc x13.1 v15 z _ _ hH hS _ (lv_sub hl [2, 0] rfl)
  replace z := ie c17 z
  refine c_aload_n hx hb dX2_within_48 rfl (lv_at hl 2 rfl) ?_
  refine lv_bipush (v := (44 : Int32)) hx hb dX2_within_49 (by decide) ?_
  replace z := ob z
  obtain ⟨b18, zb18, z⟩ := z
  obtain ⟨yb18, zb18⟩ := rcv_e zb18
  replace z := ob z
  obtain ⟨x19, zx19, z⟩ := z
  refine t_callv hH hS hRM (fun _ _ f1 f2 => vy_runV (b := b18) (As := [.int (44 : Int32)]) (rest := []) S (metX2_must zx19) (cwV 1 hts (lw_V q1053 q1055 qs28 q172 q1056) rfl rfl rfl (by decide +kernel) ⟨by dsimp only; omega, by dsimp only; omega⟩) (c_preV hG hH hS (ci := 2) rfl zb18) rfl rfl hl.1 (by rw [yb18]; rfl) (lv_room (Nat.le_of_ble_eq_true rfl)) dX2_within_51 ⟨f1, f2⟩) (fun q20 H locs ce e22 hH hS g1 g2 g3 => ?_) (fun v21 H locs e22 hH hS => ?_)
  · replace z := tb_l e22 z
    exact t_prop hEx hlk hH hS g1 g2 g3 z
  replace z := tb_r e22 z
  replace z := ob z
  obtain ⟨h23, zh23, z⟩ := z
  refine c_new S hG hH hS hRM (ci := 10) rfl in_X12 tyX12 tyX12_ok q1057 q1058 q196 df10_ok zh23 dX2_within_54 (fun H locs hH hS => ?_)
  refine lv_dup hx hb dX2_within_57 (ct_r _) ?_
  refine lv_iload_n hx hb dX2_within_58 rfl (lv_at hl 3 rfl) ?_
  refine lv_iconst (v := (2 : Int32)) hx hb dX2_within_59 (by decide) ?_
  refine lv_icmp_ne (tgt := 67) hx hb dX2_within_60 (by decide) (fun c24 => ?_) (fun c24 => ?_)
  · replace z := ie c24 z
    refine lv_iconst (v := (0 : Int32)) hx hb dX2_within_67 (by decide) ?_
    exact wX2_within_68 S hr hlk hnm hEx hG hRM hfr hrc h23 v15 (some x19.1.2.1) (some x19.1.2.1) (0 : Int32) z _ _ hH hS _ (lv_sub hl [2, 1] rfl)
  replace z := it c24 z
  refine lv_iconst (v := (1 : Int32)) hx hb dX2_within_63 (by decide) ?_
  refine lv_goto (tgt := 68) hx hb dX2_within_64 (by decide) ?_
  exact wX2_within_68 S hr hlk hnm hEx hG hRM hfr hrc h23 v15 (some x19.1.2.1) (some x19.1.2.1) (1 : Int32) z _ _ hH hS _ (lv_sub hl [2, 1] rfl)
/-! FourOnOne$Reader.atom()LFourOnOne$Value; -/
def fX2_atom_159 (K : KE) (a0 : Nat) (rs : Nat → HS → Nat → Option (HS × (Nat ⊕ Option Nat))) (h : HS) (t1 : Int32) : Option (HS × (Nat ⊕ Option Nat)) :=
  (rcv K h (some a0) 2).bind fun b1 =>
  (fX2_within K h rs b1 t1).bind fun x2 =>
  tb x2 (fun q3 => some (x2.1, .inl q3)) fun v4 =>
  some (x2.1, .inr v4)
def fX2_atom_143 (K : KE) (a0 : Nat) (rs : Nat → HS → Nat → Option (HS × (Nat ⊕ Option Nat))) (h : HS) (a1 : Option Nat) : Option (HS × (Nat ⊕ Option Nat)) :=
  (rcv K h a1 20).bind fun b1 =>
  (fJ6_equals K h b1 (K.2.1 26)).bind fun x2 =>
  if x2 = 0 then
    fX2_atom_159 K a0 rs h (2 : Int32)
  else
  fX2_atom_159 K a0 rs h (1 : Int32)
def fX2_atom_101 (K : KE) (a0 : Nat) (rs : Nat → HS → Nat → Option (HS × (Nat ⊕ Option Nat))) (h : HS) (a1 : Option Nat) (t0 : Int32) : Option (HS × (Nat ⊕ Option Nat)) :=
  if t0 = (-1 : Int32) then
    (rcv K h a1 20).bind fun b2 =>
    (fJ6_equals K h b2 (K.2.1 26)).bind fun x3 =>
    if x3 = 0 then
      (rcv K h a1 20).bind fun b5 =>
      (fJ6_equals K h b5 (K.2.1 27)).bind fun x6 =>
      if x6 = 0 then
        (gI K h (some a0) 2 3).bind fun v8 =>
        (rcv K h (some a0) 2).bind fun b9 =>
        (fX2_wrong K h b9 (1 : Int32) v8).bind fun x10 =>
        (rcv K x10.1 x10.2 3).bind fun q11 =>
        some (x10.1, .inl q11)
      else
      fX2_atom_143 K a0 rs h a1
    else
    fX2_atom_143 K a0 rs h a1
  else
  (rcv K h (some a0) 2).bind fun b12 =>
  (fX2_looked K h rs b12 t0).bind fun x13 =>
  tb x13 (fun q14 => some (x13.1, .inl q14)) fun v15 =>
  some (x13.1, .inr v15)
def fX2_atom_80 (K : KE) (a0 : Nat) (rs : Nat → HS → Nat → Option (HS × (Nat ⊕ Option Nat))) (h : HS) (a1 : Option Nat) : Option (HS × (Nat ⊕ Option Nat)) :=
  (gI K h (some a0) 2 5).bind fun v1 =>
  if v1 = (249 : Int32) then
    (fX0_find K h a1 (K.2.1 1)).bind fun x3 =>
    fX2_atom_101 K a0 rs h a1 x3
  else
  fX2_atom_101 K a0 rs h a1 (-1 : Int32)
def fX2_atom (K : KE) (h : HS) (rs : Nat → HS → Nat → Option (HS × (Nat ⊕ Option Nat))) (a0 : Nat) : Option (HS × (Nat ⊕ Option Nat)) :=
  (rcv K h (some a0) 2).bind fun b1 =>
  (fX2_here K h b1).bind fun x2 =>
  if x2.2 = (40 : Int32) then
    (rcv K x2.1 (some a0) 2).bind fun b27 =>
    (fX2_within K x2.1 rs b27 (0 : Int32)).bind fun x28 =>
    tb x28 (fun q29 => some (x28.1, .inl q29)) fun v30 =>
    some (x28.1, .inr v30)
  else
  (rcv K x2.1 (some a0) 2).bind fun b4 =>
  (fX2_here K x2.1 b4).bind fun x5 =>
  (fX0_isDigit K x5.1 x5.2).bind fun x6 =>
  if x6 = 0 then
    (rcv K x5.1 (some a0) 2).bind fun b8 =>
    (fX2_word K x5.1 b8).bind fun x9 =>
    tb x9 (fun q10 => some (x9.1, .inl q10)) fun v11 =>
    (fX0_find K x9.1 v11 (K.2.1 0)).bind fun x13 =>
    if x13 = (-1 : Int32) then
      fX2_atom_80 K a0 rs x9.1 v11
    else
    (gI K x9.1 (some a0) 2 5).bind fun v15 =>
    (fX0_has K x9.1 v15 x13).bind fun x16 =>
    if x16 = 0 then
      fX2_atom_80 K a0 rs x9.1 v11
    else
    (alc K x9.1 (.inr (12, df12)) 1).bind fun h18 =>
    (fX14_init K h18 x9.1.2.1 x13).bind fun x19 =>
    some (x19, .inr (some x9.1.2.1))
  else
  (alc K x5.1 (.inr (11, df11)) 1).bind fun h20 =>
  (rcv K h20 (some a0) 2).bind fun b21 =>
  (fX2_number_2 K h20 b21 (0 : Int32) (9999 : Int32)).bind fun x22 =>
  tb x22 (fun q23 => some (x22.1, .inl q23)) fun v24 =>
  (fX13_init K x22.1 x5.1.2.1 v24.toInt64).bind fun x26 =>
  some (x26, .inr (some x5.1.2.1))
set_option maxHeartbeats 4000000 in
theorem wX2_atom_159 {p : Program} {l : Launch} {e : Env} {s : State} {m : MethodId} {args : Array Value} {below : List Frame} {meth : Method} {c : Code} {A : Nat → Prop} {D : va_G} {ac : Nat → ClassId} {K : KE} {h0 : HS} {a0 : Nat} {fr lo : Nat} (S : CallFix p m c cX2_atom 3 s args lw_all RX2) (hr : meth.sig.returnType = some (.object "FourOnOne$Value")) (hlk : meth.locks = false) (hnm : meth.name = "atom") (hEx : ∀ x ∈ c.exceptionTable.toList, False) (hG : GK A D ac K s) (hRM : RM K s (rmC (fr + 12) (lo + 643) K h0)) {rs : Nat → HS → Nat → Option (HS × (Nat ⊕ Option Nat))} (hfr : 60 ≤ fr ∧ 1000 ≤ lo) (hrc : ROK l A D ac K fr lo rs) {x : HS × (Nat ⊕ Option Nat)} : ∀ (h : HS) (t1 : Int32), fX2_atom_159 K a0 rs h t1 = some x → cGo p l e (rmC (fr + 12) (lo + 643) K h0) s m args below meth c A D ac K (vy_MQ below (tQq A D ac K x) (tX A D ac K x) args s (K.2.2.1 - h0.2.1) (K.2.2.2 - h0.2.2) A) 3 159 [(0, va_rf (some a0))] [.int t1, va_rf (some a0)] h := by
  obtain ⟨hx, hb, hml, hown, hts⟩ := id S
  intro h t1 z H locs hH hS ls hl
  unfold fX2_atom_159 at z
  replace z := ob z
  obtain ⟨b1, zb1, z⟩ := z
  obtain ⟨yb1, zb1⟩ := rcv_e zb1
  replace z := ob z
  obtain ⟨x2, zx2, z⟩ := z
  refine t_callq hH hS hRM (fun _ _ f1 f2 => vy_runV (b := b1) (As := [.int t1]) (rest := []) S (metX2_within hfr hrc zx2) (cwV 1 hts (lw_V q1045 q1047 qs26 q172 q1048) rfl rfl rfl (by decide +kernel) ⟨by dsimp only; omega, by dsimp only; omega⟩) (c_preV hG hH hS (ci := 2) rfl zb1) rfl rfl hl.1 (by rw [yb1]; rfl) (lv_room (Nat.le_of_ble_eq_true rfl)) dX2_atom_159 ⟨f1, f2⟩) (fun q3 H locs ce e5 hH hS g1 g2 g3 => ?_) (fun v4 H locs e5 hH hS => ?_)
  · replace z := tb_l e5 z
    exact t_prop hEx hlk hH hS g1 g2 g3 z
  replace z := tb_r e5 z
  exact t_aret S hr (Or.inl ⟨_, rfl⟩) hlk hH hS z dX2_atom_162
set_option maxHeartbeats 4000000 in
theorem wX2_atom_143 {p : Program} {l : Launch} {e : Env} {s : State} {m : MethodId} {args : Array Value} {below : List Frame} {meth : Method} {c : Code} {A : Nat → Prop} {D : va_G} {ac : Nat → ClassId} {K : KE} {h0 : HS} {a0 : Nat} {fr lo : Nat} (S : CallFix p m c cX2_atom 3 s args lw_all RX2) (hr : meth.sig.returnType = some (.object "FourOnOne$Value")) (hlk : meth.locks = false) (hnm : meth.name = "atom") (hEx : ∀ x ∈ c.exceptionTable.toList, False) (hG : GK A D ac K s) (hRM : RM K s (rmC (fr + 12) (lo + 643) K h0)) {rs : Nat → HS → Nat → Option (HS × (Nat ⊕ Option Nat))} (hfr : 60 ≤ fr ∧ 1000 ≤ lo) (hrc : ROK l A D ac K fr lo rs) {x : HS × (Nat ⊕ Option Nat)} : ∀ (h : HS) (a1 : Option Nat), fX2_atom_143 K a0 rs h a1 = some x → cGo p l e (rmC (fr + 12) (lo + 643) K h0) s m args below meth c A D ac K (vy_MQ below (tQq A D ac K x) (tX A D ac K x) args s (K.2.2.1 - h0.2.1) (K.2.2.2 - h0.2.2) A) 3 143 [(0, va_rf (some a0)), (1, va_rf a1)] [] h := by
  obtain ⟨hx, hb, hml, hown, hts⟩ := id S
  intro h a1 z H locs hH hS ls hl
  unfold fX2_atom_143 at z
  refine c_aload_n hx hb dX2_atom_143 rfl (lv_at hl 0 rfl) ?_
  refine c_aload_n hx hb dX2_atom_144 rfl (lv_at hl 1 rfl) ?_
  refine c_ldcSW S hG (i := 26) (tx := "min") (List.mem_of_getElem? (i := 16) rfl) dX2_atom_145 ?_
  replace z := ob z
  obtain ⟨b1, zb1, z⟩ := z
  obtain ⟨yb1, zb1⟩ := rcv_e zb1
  replace z := ob z
  obtain ⟨x2, zx2, z⟩ := z
  refine c_calli hH hS hRM (fun _ _ f1 f2 => va_runV (b := b1) (As := [va_rf (K.2.1 26)]) (rest := [va_rf (some a0)]) S (metJ6_equals zx2) (cwV 1 hts (lw_V q745 q746 q747 q180 q748) rfl rfl rfl (by decide +kernel) ⟨by dsimp only; omega, by dsimp only; omega⟩) (c_preV hG hH hS (ci := 20) rfl zb1) rfl rfl hl.1 (by rw [yb1]; rfl) (lv_room (Nat.le_of_ble_eq_true rfl)) dX2_atom_148 ⟨f1, f2⟩) (fun H locs hH hS => ?_)
  refine lv_if_eq (tgt := 158) hx hb dX2_atom_151 (by decide) (fun c3 => ?_) (fun c3 => ?_)
  · replace z := it c3 z
    refine lv_iconst (v := (2 : Int32)) hx hb dX2_atom_158 (by decide) ?_
    exact wX2_atom_159 S hr hlk hnm hEx hG hRM hfr hrc h (2 : Int32) z _ _ hH hS _ (lv_sub hl [0] rfl)
  replace z := ie c3 z
  refine lv_iconst (v := (1 : Int32)) hx hb dX2_atom_154 (by decide) ?_
  refine lv_goto (tgt := 159) hx hb dX2_atom_155 (by decide) ?_
  exact wX2_atom_159 S hr hlk hnm hEx hG hRM hfr hrc h (1 : Int32) z _ _ hH hS _ (lv_sub hl [0] rfl)
set_option maxHeartbeats 4000000 in
theorem wX2_atom_101 {p : Program} {l : Launch} {e : Env} {s : State} {m : MethodId} {args : Array Value} {below : List Frame} {meth : Method} {c : Code} {A : Nat → Prop} {D : va_G} {ac : Nat → ClassId} {K : KE} {h0 : HS} {a0 : Nat} {fr lo : Nat} (S : CallFix p m c cX2_atom 3 s args lw_all RX2) (hr : meth.sig.returnType = some (.object "FourOnOne$Value")) (hlk : meth.locks = false) (hnm : meth.name = "atom") (hEx : ∀ x ∈ c.exceptionTable.toList, False) (hG : GK A D ac K s) (hRM : RM K s (rmC (fr + 12) (lo + 643) K h0)) {rs : Nat → HS → Nat → Option (HS × (Nat ⊕ Option Nat))} (hfr : 60 ≤ fr ∧ 1000 ≤ lo) (hrc : ROK l A D ac K fr lo rs) {x : HS × (Nat ⊕ Option Nat)} : ∀ (h : HS) (a1 : Option Nat) (t0 : Int32), fX2_atom_101 K a0 rs h a1 t0 = some x → cGo p l e (rmC (fr + 12) (lo + 643) K h0) s m args below meth c A D ac K (vy_MQ below (tQq A D ac K x) (tX A D ac K x) args s (K.2.2.1 - h0.2.1) (K.2.2.2 - h0.2.2) A) 3 101 [(0, va_rf (some a0)), (1, va_rf a1)] [.int t0] h := by
  obtain ⟨hx, hb, hml, hown, hts⟩ := id S
  intro h a1 t0 z H locs hH hS ls hl
  unfold fX2_atom_101 at z
  refine lv_istore_n (i := 2) (lv' := [(2, .int t0), (0, va_rf (some a0)), (1, va_rf a1)]) hx hb dX2_atom_101 rfl hl (by decide) (by simp [List.filter, ct_r, ct_i, ct_l]) (fun ls hl => ?_)
  refine lv_iload_n hx hb dX2_atom_102 rfl (lv_at hl 0 rfl) ?_
  refine lv_iconst (v := (-1 : Int32)) hx hb dX2_atom_103 (by decide) ?_
  refine lv_icmp_eq (tgt := 113) hx hb dX2_atom_104 (by decide) (fun c1 => ?_) (fun c1 => ?_)
  rotate_left 1
  · replace z := ie c1 z
    refine c_aload_n hx hb dX2_atom_107 rfl (lv_at hl 1 rfl) ?_
    refine lv_iload_n hx hb dX2_atom_108 rfl (lv_at hl 0 rfl) ?_
    replace z := ob z
    obtain ⟨b12, zb12, z⟩ := z
    obtain ⟨yb12, zb12⟩ := rcv_e zb12
    replace z := ob z
    obtain ⟨x13, zx13, z⟩ := z
    refine t_callq hH hS hRM (fun _ _ f1 f2 => vy_runV (b := b12) (As := [.int t0]) (rest := []) S (metX2_looked hfr hrc zx13) (cwV 1 hts (lw_V q1097 q1099 qs29 q172 q1100) rfl rfl rfl (by decide +kernel) ⟨by dsimp only; omega, by dsimp only; omega⟩) (c_preV hG hH hS (ci := 2) rfl zb12) rfl rfl hl.1 (by rw [yb12]; rfl) (lv_room (Nat.le_of_ble_eq_true rfl)) dX2_atom_109 ⟨f1, f2⟩) (fun q14 H locs ce e16 hH hS g1 g2 g3 => ?_) (fun v15 H locs e16 hH hS => ?_)
    · replace z := tb_l e16 z
      exact t_prop hEx hlk hH hS g1 g2 g3 z
    replace z := tb_r e16 z
    exact t_aret S hr (Or.inl ⟨_, rfl⟩) hlk hH hS z dX2_atom_112
  replace z := it c1 z
  refine c_aload_n hx hb dX2_atom_113 rfl (lv_at hl 2 rfl) ?_
  refine c_ldcSW S hG (i := 26) (tx := "min") (List.mem_of_getElem? (i := 16) rfl) dX2_atom_114 ?_
  replace z := ob z
  obtain ⟨b2, zb2, z⟩ := z
  obtain ⟨yb2, zb2⟩ := rcv_e zb2
  replace z := ob z
  obtain ⟨x3, zx3, z⟩ := z
  refine c_calli hH hS hRM (fun _ _ f1 f2 => va_runV (b := b2) (As := [va_rf (K.2.1 26)]) (rest := []) S (metJ6_equals zx3) (cwV 1 hts (lw_V q745 q746 q747 q180 q748) rfl rfl rfl (by decide +kernel) ⟨by dsimp only; omega, by dsimp only; omega⟩) (c_preV hG hH hS (ci := 20) rfl zb2) rfl rfl hl.1 (by rw [yb2]; rfl) (lv_room (Nat.le_of_ble_eq_true rfl)) dX2_atom_117 ⟨f1, f2⟩) (fun H locs hH hS => ?_)
  refine lv_if_ne (tgt := 143) hx hb dX2_atom_120 (by decide) (fun c4 => ?_) (fun c4 => ?_)
  · replace z := ie c4 z
    exact wX2_atom_143 S hr hlk hnm hEx hG hRM hfr hrc h a1 z _ _ hH hS _ (lv_sub hl [1, 2] rfl)
  replace z := it c4 z
  refine c_aload_n hx hb dX2_atom_123 rfl (lv_at hl 2 rfl) ?_
  refine c_ldcSW S hG (i := 27) (tx := "max") (List.mem_of_getElem? (i := 17) rfl) dX2_atom_124 ?_
  replace z := ob z
  obtain ⟨b5, zb5, z⟩ := z
  obtain ⟨yb5, zb5⟩ := rcv_e zb5
  replace z := ob z
  obtain ⟨x6, zx6, z⟩ := z
  refine c_calli hH hS hRM (fun _ _ f1 f2 => va_runV (b := b5) (As := [va_rf (K.2.1 27)]) (rest := []) S (metJ6_equals zx6) (cwV 1 hts (lw_V q745 q746 q747 q180 q748) rfl rfl rfl (by decide +kernel) ⟨by dsimp only; omega, by dsimp only; omega⟩) (c_preV hG hH hS (ci := 20) rfl zb5) rfl rfl hl.1 (by rw [yb5]; rfl) (lv_room (Nat.le_of_ble_eq_true rfl)) dX2_atom_127 ⟨f1, f2⟩) (fun H locs hH hS => ?_)
  refine lv_if_ne (tgt := 143) hx hb dX2_atom_130 (by decide) (fun c7 => ?_) (fun c7 => ?_)
  · replace z := ie c7 z
    exact wX2_atom_143 S hr hlk hnm hEx hG hRM hfr hrc h a1 z _ _ hH hS _ (lv_sub hl [1, 2] rfl)
  replace z := it c7 z
  refine c_aload_n hx hb dX2_atom_133 rfl (lv_at hl 1 rfl) ?_
  refine lv_iconst (v := (1 : Int32)) hx hb dX2_atom_134 (by decide) ?_
  refine c_aload_n hx hb dX2_atom_135 rfl (lv_at hl 1 rfl) ?_
  replace z := ob z
  obtain ⟨v8, zv8, z⟩ := z
  obtain ⟨fsv8, yv8, zv8⟩ := gI_e zv8
  refine c_get S hG hH (ci := 2) (k := 3) rfl in_X2 (Nat.le_of_ble_eq_true rfl) q385 (fun _ y => y) yv8 zv8 dX2_atom_136 ?_
  replace z := ob z
  obtain ⟨b9, zb9, z⟩ := z
  obtain ⟨yb9, zb9⟩ := rcv_e zb9
  replace z := ob z
  obtain ⟨x10, zx10, z⟩ := z
  refine c_callq hH hS hRM (fun _ _ f1 f2 => va_runV (b := b9) (As := [.int (1 : Int32), .int v8]) (rest := []) S (metX2_wrong zx10) (cwV 2 hts (lw_V q591 q593 qs7 q172 q594) rfl rfl rfl (by decide +kernel) ⟨by dsimp only; omega, by dsimp only; omega⟩) (c_preV hG hH hS (ci := 2) rfl zb9) rfl rfl hl.1 (by rw [yb9]; rfl) (lv_room (Nat.le_of_ble_eq_true rfl)) dX2_atom_139 ⟨f1, f2⟩) (fun H locs hH hS => ?_)
  replace z := ob z
  obtain ⟨q11, zq11, z⟩ := z
  exact t_throw S hG hEx hlk zq11 hH hS z dX2_atom_142
set_option maxHeartbeats 4000000 in
theorem wX2_atom_80 {p : Program} {l : Launch} {e : Env} {s : State} {m : MethodId} {args : Array Value} {below : List Frame} {meth : Method} {c : Code} {A : Nat → Prop} {D : va_G} {ac : Nat → ClassId} {K : KE} {h0 : HS} {a0 : Nat} {fr lo : Nat} (S : CallFix p m c cX2_atom 3 s args lw_all RX2) (hr : meth.sig.returnType = some (.object "FourOnOne$Value")) (hlk : meth.locks = false) (hnm : meth.name = "atom") (hEx : ∀ x ∈ c.exceptionTable.toList, False) (hG : GK A D ac K s) (hRM : RM K s (rmC (fr + 12) (lo + 643) K h0)) {rs : Nat → HS → Nat → Option (HS × (Nat ⊕ Option Nat))} (hfr : 60 ≤ fr ∧ 1000 ≤ lo) (hrc : ROK l A D ac K fr lo rs) {x : HS × (Nat ⊕ Option Nat)} : ∀ (h : HS) (a1 : Option Nat), fX2_atom_80 K a0 rs h a1 = some x → cGo p l e (rmC (fr + 12) (lo + 643) K h0) s m args below meth c A D ac K (vy_MQ below (tQq A D ac K x) (tX A D ac K x) args s (K.2.2.1 - h0.2.1) (K.2.2.2 - h0.2.2) A) 3 80 [(0, va_rf (some a0)), (1, va_rf a1)] [] h := by
  obtain ⟨hx, hb, hml, hown, hts⟩ := id S
  intro h a1 z H locs hH hS ls hl
  unfold fX2_atom_80 at z
  refine c_aload_n hx hb dX2_atom_80 rfl (lv_at hl 0 rfl) ?_
  replace z := ob z
  obtain ⟨v1, zv1, z⟩ := z
  obtain ⟨fsv1, yv1, zv1⟩ := gI_e zv1
  refine c_get S hG hH (ci := 2) (k := 5) rfl in_X2 (Nat.le_of_ble_eq_true rfl) q387 (fun _ y => y) yv1 zv1 dX2_atom_81 ?_
  refine lv_sipush (v := (249 : Int32)) hx hb dX2_atom_84 (by decide) ?_
  refine lv_icmp_ne (tgt := 100) hx hb dX2_atom_87 (by decide) (fun c2 => ?_) (fun c2 => ?_)
  · replace z := ie c2 z
    refine lv_iconst (v := (-1 : Int32)) hx hb dX2_atom_100 (by decide) ?_
    exact wX2_atom_101 S hr hlk hnm hEx hG hRM hfr hrc h a1 (-1 : Int32) z _ _ hH hS _ (lv_sub hl [0, 1] rfl)
  replace z := it c2 z
  refine c_aload_n hx hb dX2_atom_90 rfl (lv_at hl 1 rfl) ?_
  refine c_getsN S hG hS (i := 1) (List.mem_of_getElem? (i := 1) rfl) q1095 dX2_atom_91 ?_
  replace z := ob z
  obtain ⟨x3, zx3, z⟩ := z
  refine c_calli hH hS hRM (fun _ _ f1 f2 => va_runSN (As := [va_rf a1, va_rf (K.2.1 1)]) (rest := []) S (metX0_find zx3) ⟨va_cnB 2 hts (lw_meth q780) rfl rfl rfl (hG.2.1.2.1 _ _ _ _ q778) (hts _ q167) (by decide +kernel) ⟨by dsimp only; omega, by dsimp only; omega⟩, hts _ q779, trivial⟩ (c_pre hG hH hS) rfl rfl hl.1 rfl (lv_room (Nat.le_of_ble_eq_true rfl)) dX2_atom_94 ⟨f1, f2⟩) (fun H locs hH hS => ?_)
  refine lv_goto (tgt := 101) hx hb dX2_atom_97 (by decide) ?_
  exact wX2_atom_101 S hr hlk hnm hEx hG hRM hfr hrc h a1 x3 z _ _ hH hS _ (lv_sub hl [0, 1] rfl)
set_option maxHeartbeats 4000000 in
theorem metX2_atom {l : Launch} {A : Nat → Prop} {D : va_G} {ac : Nat → ClassId} {K : KE} {h : HS} {fr lo : Nat} {rs : Nat → HS → Nat → Option (HS × (Nat ⊕ Option Nat))} (hfr : 60 ≤ fr ∧ 1000 ≤ lo) (hrc : ROK l A D ac K fr lo rs) {a0 : Nat} {x : HS × (Nat ⊕ Option Nat)} (z : fX2_atom K h rs a0 = some x) : vy_Met l yX2_atom (ws_ yX2_atom cX2_atom 3 (some (.object "FourOnOne$Value"))) (rmC (fr + 12) (lo + 643) K h) (cP A D ac K h [va_rf (some a0)]) (tQq A D ac K x) (tX A D ac K x) (K.2.2.1 - h.2.1) (K.2.2.2 - h.2.2) A := by
  refine t_entry (by decide) (Nat.le_of_ble_eq_true rfl) ?_
  intro p e s m below meth c S hr hlk hnm hEx hG hRM hH hS ls hl
  replace hl : lv_has ls 3 [(0, va_rf (some a0))] := hl
  replace hnm : meth.name = "atom" := hnm
  replace S : CallFix p m c cX2_atom 3 s _ lw_all RX2 := S
  obtain ⟨hx, hb, hml, hown, hts⟩ := id S
  unfold fX2_atom at z
  refine c_aload_n hx hb dX2_atom_0 rfl (lv_at hl 0 rfl) ?_
  replace z := ob z
  obtain ⟨b1, zb1, z⟩ := z
  obtain ⟨yb1, zb1⟩ := rcv_e zb1
  replace z := ob z
  obtain ⟨x2, zx2, z⟩ := z
  refine c_calli hH hS hRM (fun _ _ f1 f2 => va_runV (b := b1) (As := []) (rest := []) S (metX2_here zx2) (cwV 0 hts (lw_V q579 q581 qs4 q172 q582) rfl rfl rfl (by decide +kernel) ⟨by dsimp only; omega, by dsimp only; omega⟩) (c_preV hG hH hS (ci := 2) rfl zb1) rfl rfl hl.1 (by rw [yb1]; rfl) (lv_room (Nat.le_of_ble_eq_true rfl)) dX2_atom_1 ⟨f1, f2⟩) (fun H locs hH hS => ?_)
  refine lv_bipush (v := (40 : Int32)) hx hb dX2_atom_4 (by decide) ?_
  refine lv_icmp_ne (tgt := 15) hx hb dX2_atom_6 (by decide) (fun c3 => ?_) (fun c3 => ?_)
  rotate_left 1
  · replace z := it c3 z
    refine c_aload_n hx hb dX2_atom_9 rfl (lv_at hl 0 rfl) ?_
    refine lv_iconst (v := (0 : Int32)) hx hb dX2_atom_10 (by decide) ?_
    replace z := ob z
    obtain ⟨b27, zb27, z⟩ := z
    obtain ⟨yb27, zb27⟩ := rcv_e zb27
    replace z := ob z
    obtain ⟨x28, zx28, z⟩ := z
    refine t_callq hH hS hRM (fun _ _ f1 f2 => vy_runV (b := b27) (As := [.int (0 : Int32)]) (rest := []) S (metX2_within hfr hrc zx28) (cwV 1 hts (lw_V q1045 q1047 qs26 q172 q1048) rfl rfl rfl (by decide +kernel) ⟨by dsimp only; omega, by dsimp only; omega⟩) (c_preV hG hH hS (ci := 2) rfl zb27) rfl rfl hl.1 (by rw [yb27]; rfl) (lv_room (Nat.le_of_ble_eq_true rfl)) dX2_atom_11 ⟨f1, f2⟩) (fun q29 H locs ce e31 hH hS g1 g2 g3 => ?_) (fun v30 H locs e31 hH hS => ?_)
    · replace z := tb_l e31 z
      exact t_prop hEx hlk hH hS g1 g2 g3 z
    replace z := tb_r e31 z
    exact t_aret S hr (Or.inl ⟨_, rfl⟩) hlk hH hS z dX2_atom_14
  replace z := ie c3 z
  refine c_aload_n hx hb dX2_atom_15 rfl (lv_at hl 0 rfl) ?_
  replace z := ob z
  obtain ⟨b4, zb4, z⟩ := z
  obtain ⟨yb4, zb4⟩ := rcv_e zb4
  replace z := ob z
  obtain ⟨x5, zx5, z⟩ := z
  refine c_calli hH hS hRM (fun _ _ f1 f2 => va_runV (b := b4) (As := []) (rest := []) S (metX2_here zx5) (cwV 0 hts (lw_V q579 q581 qs4 q172 q582) rfl rfl rfl (by decide +kernel) ⟨by dsimp only; omega, by dsimp only; omega⟩) (c_preV hG hH hS (ci := 2) rfl zb4) rfl rfl hl.1 (by rw [yb4]; rfl) (lv_room (Nat.le_of_ble_eq_true rfl)) dX2_atom_16 ⟨f1, f2⟩) (fun H locs hH hS => ?_)
  replace z := ob z
  obtain ⟨x6, zx6, z⟩ := z
  refine c_calli hH hS hRM (fun _ _ f1 f2 => va_runSN (As := [.int x5.2]) (rest := []) S (metX0_isDigit zx6) ⟨va_cnB 1 hts (lw_meth q608) rfl rfl rfl (hG.2.1.2.1 _ _ _ _ q606) (hts _ q167) (by decide +kernel) ⟨by dsimp only; omega, by dsimp only; omega⟩, hts _ q607, trivial⟩ (c_pre hG hH hS) rfl rfl hl.1 rfl (lv_room (Nat.le_of_ble_eq_true rfl)) dX2_atom_19 ⟨f1, f2⟩) (fun H locs hH hS => ?_)
  refine lv_if_eq (tgt := 42) hx hb dX2_atom_22 (by decide) (fun c7 => ?_) (fun c7 => ?_)
  rotate_left 1
  · replace z := ie c7 z
    replace z := ob z
    obtain ⟨h20, zh20, z⟩ := z
    refine c_new S hG hH hS hRM (ci := 11) rfl in_X13 tyX13 tyX13_ok q1073 q1074 q197 df11_ok zh20 dX2_atom_25 (fun H locs hH hS => ?_)
    refine lv_dup hx hb dX2_atom_28 (ct_r _) ?_
    refine c_aload_n hx hb dX2_atom_29 rfl (lv_at hl 0 rfl) ?_
    refine lv_iconst (v := (0 : Int32)) hx hb dX2_atom_30 (by decide) ?_
    refine lv_sipush (v := (9999 : Int32)) hx hb dX2_atom_31 (by decide) ?_
    replace z := ob z
    obtain ⟨b21, zb21, z⟩ := z
    obtain ⟨yb21, zb21⟩ := rcv_e zb21
    replace z := ob z
    obtain ⟨x22, zx22, z⟩ := z
    refine t_calli hH hS hRM (fun _ _ f1 f2 => vy_runV (b := b21) (As := [.int (0 : Int32), .int (9999 : Int32)]) (rest := [va_rf (some x5.1.2.1), va_rf (some x5.1.2.1)]) S (metX2_number_2 zx22) (cwV 2 hts (lw_V q919 q921 qs19 q172 q922) rfl rfl rfl (by decide +kernel) ⟨by dsimp only; omega, by dsimp only; omega⟩) (c_preV hG hH hS (ci := 2) rfl zb21) rfl rfl hl.1 (by rw [yb21]; rfl) (lv_room (by simp [ct_r, ct_i, ct_l])) dX2_atom_34 ⟨f1, f2⟩) (fun q23 H locs ce e25 hH hS g1 g2 g3 => ?_) (fun v24 H locs e25 hH hS => ?_)
    · replace z := tb_l e25 z
      exact t_prop hEx hlk hH hS g1 g2 g3 z
    replace z := tb_r e25 z
    refine lv_i2l (v := v24.toInt64) hx hb dX2_atom_37 rfl ?_
    replace z := ob z
    obtain ⟨x26, zx26, z⟩ := z
    refine c_callv hH hS hRM (fun _ _ f1 f2 => va_runI (b := x5.1.2.1) (As := [.long v24.toInt64]) (rest := [va_rf (some x5.1.2.1)]) S (metX13_init zx26) (cwI 1 hts (lw_meth q1077) rfl rfl rfl (hts _ q197) (hts _ q1075) (hts _ q1076) rfl (by decide +kernel) ⟨by dsimp only; omega, by dsimp only; omega⟩) (c_pre hG hH hS) rfl rfl hl.1 rfl (lv_room (by simp [ct_r, ct_i, ct_l])) dX2_atom_38 ⟨f1, f2⟩) (fun H locs hH hS => ?_)
    exact t_aret S hr (Or.inl ⟨_, rfl⟩) hlk hH hS z dX2_atom_41
  replace z := it c7 z
  refine c_aload_n hx hb dX2_atom_42 rfl (lv_at hl 0 rfl) ?_
  replace z := ob z
  obtain ⟨b8, zb8, z⟩ := z
  obtain ⟨yb8, zb8⟩ := rcv_e zb8
  replace z := ob z
  obtain ⟨x9, zx9, z⟩ := z
  refine t_callq hH hS hRM (fun _ _ f1 f2 => vy_runV (b := b8) (As := []) (rest := []) S (metX2_word zx9) (cwV 0 hts (lw_V q595 q597 qs8 q172 q598) rfl rfl rfl (by decide +kernel) ⟨by dsimp only; omega, by dsimp only; omega⟩) (c_preV hG hH hS (ci := 2) rfl zb8) rfl rfl hl.1 (by rw [yb8]; rfl) (lv_room (Nat.le_of_ble_eq_true rfl)) dX2_atom_43 ⟨f1, f2⟩) (fun q10 H locs ce e12 hH hS g1 g2 g3 => ?_) (fun v11 H locs e12 hH hS => ?_)
  · replace z := tb_l e12 z
    exact t_prop hEx hlk hH hS g1 g2 g3 z
  replace z := tb_r e12 z
  refine c_astore_n (lv' := [(1, va_rf v11), (0, va_rf (some a0))]) hx hb dX2_atom_46 rfl hl (by decide) rfl (fun ls hl => ?_)
  refine c_aload_n hx hb dX2_atom_47 rfl (lv_at hl 0 rfl) ?_
  refine c_getsN S hG hS (i := 0) (List.mem_of_getElem? (i := 0) rfl) q1083 dX2_atom_48 ?_
  replace z := ob z
  obtain ⟨x13, zx13, z⟩ := z
  refine c_calli hH hS hRM (fun _ _ f1 f2 => va_runSN (As := [va_rf v11, va_rf (K.2.1 0)]) (rest := []) S (metX0_find zx13) ⟨va_cnB 2 hts (lw_meth q780) rfl rfl rfl (hG.2.1.2.1 _ _ _ _ q778) (hts _ q167) (by decide +kernel) ⟨by dsimp only; omega, by dsimp only; omega⟩, hts _ q779, trivial⟩ (c_pre hG hH hS) rfl rfl hl.1 rfl (lv_room (Nat.le_of_ble_eq_true rfl)) dX2_atom_51 ⟨f1, f2⟩) (fun H locs hH hS => ?_)
  refine lv_istore_n (i := 2) (lv' := [(2, .int x13), (1, va_rf v11), (0, va_rf (some a0))]) hx hb dX2_atom_54 rfl hl (by decide) (by simp [List.filter, ct_r, ct_i, ct_l]) (fun ls hl => ?_)
  refine lv_iload_n hx hb dX2_atom_55 rfl (lv_at hl 0 rfl) ?_
  refine lv_iconst (v := (-1 : Int32)) hx hb dX2_atom_56 (by decide) ?_
  refine lv_icmp_eq (tgt := 80) hx hb dX2_atom_57 (by decide) (fun c14 => ?_) (fun c14 => ?_)
  · replace z := it c14 z
    exact wX2_atom_80 S hr hlk hnm hEx hG hRM hfr hrc x9.1 v11 z _ _ hH hS _ (lv_sub hl [2, 1] rfl)
  replace z := ie c14 z
  refine c_aload_n hx hb dX2_atom_60 rfl (lv_at hl 2 rfl) ?_
  replace z := ob z
  obtain ⟨v15, zv15, z⟩ := z
  obtain ⟨fsv15, yv15, zv15⟩ := gI_e zv15
  refine c_get S hG hH (ci := 2) (k := 5) rfl in_X2 (Nat.le_of_ble_eq_true rfl) q387 (fun _ y => y) yv15 zv15 dX2_atom_61 ?_
  refine lv_iload_n hx hb dX2_atom_64 rfl (lv_at hl 0 rfl) ?_
  replace z := ob z
  obtain ⟨x16, zx16, z⟩ := z
  refine c_calli hH hS hRM (fun _ _ f1 f2 => va_runSN (As := [.int v15, .int x13]) (rest := []) S (metX0_has zx16) ⟨va_cnB 2 hts (lw_meth q976) rfl rfl rfl (hG.2.1.2.1 _ _ _ _ q974) (hts _ q167) (by decide +kernel) ⟨by dsimp only; omega, by dsimp only; omega⟩, hts _ q975, trivial⟩ (c_pre hG hH hS) rfl rfl hl.1 rfl (lv_room (Nat.le_of_ble_eq_true rfl)) dX2_atom_65 ⟨f1, f2⟩) (fun H locs hH hS => ?_)
  refine lv_if_eq (tgt := 80) hx hb dX2_atom_68 (by decide) (fun c17 => ?_) (fun c17 => ?_)
  · replace z := it c17 z
    exact wX2_atom_80 S hr hlk hnm hEx hG hRM hfr hrc x9.1 v11 z _ _ hH hS _ (lv_sub hl [2, 1] rfl)
  replace z := ie c17 z
  replace z := ob z
  obtain ⟨h18, zh18, z⟩ := z
  refine c_new S hG hH hS hRM (ci := 12) rfl in_X14 tyX14 tyX14_ok q1085 q1086 q198 df12_ok zh18 dX2_atom_71 (fun H locs hH hS => ?_)
  refine lv_dup hx hb dX2_atom_74 (ct_r _) ?_
  refine lv_iload_n hx hb dX2_atom_75 rfl (lv_at hl 0 rfl) ?_
  replace z := ob z
  obtain ⟨x19, zx19, z⟩ := z
  refine c_callv hH hS hRM (fun _ _ f1 f2 => va_runI (b := x9.1.2.1) (As := [.int x13]) (rest := [va_rf (some x9.1.2.1)]) S (metX14_init zx19) (cwI 1 hts (lw_meth q1089) rfl rfl rfl (hts _ q198) (hts _ q1087) (hts _ q1088) rfl (by decide +kernel) ⟨by dsimp only; omega, by dsimp only; omega⟩) (c_pre hG hH hS) rfl rfl hl.1 rfl (lv_room (by simp [ct_r, ct_i, ct_l])) dX2_atom_76 ⟨f1, f2⟩) (fun H locs hH hS => ?_)
  exact t_aret S hr (Or.inl ⟨_, rfl⟩) hlk hH hS z dX2_atom_79
/-! FourOnOne$Reader.product()LFourOnOne$Value; -/
def fX2_product_20 (K : KE) (a0 : Nat) (rs : Nat → HS → Nat → Option (HS × (Nat ⊕ Option Nat))) : Nat → HS → Option Nat → Int32 → Option (HS × (Nat ⊕ Option Nat))
  | 0, _, _, _ => none
  | n + 1, h, a1, a2 =>
    if a2 = 0 then
      some (h, .inr a1)
    else
    (rcv K h (some a0) 2).bind fun b2 =>
    (fX2_takes K h b2 (42 : Int32)).bind fun x3 =>
    if x3.2 = 0 then
      (rcv K x3.1 (some a0) 2).bind fun b5 =>
      (fX2_takes K x3.1 b5 (47 : Int32)).bind fun x6 =>
      if x6.2 = 0 then
        fX2_product_20 K a0 rs n x6.1 a1 (0 : Int32)
      else
      (rcv K x6.1 (some a0) 2).bind fun b8 =>
      (fX2_atom K x6.1 rs b8).bind fun x9 =>
      tb x9 (fun q10 => some (x9.1, .inl q10)) fun v11 =>
      (rcv K x9.1 a1 9).bind fun b13 =>
      (fX11_add K x9.1 b13 (47 : Int32) v11).bind fun x14 =>
      fX2_product_20 K a0 rs n x14 a1 a2
    else
    (rcv K x3.1 (some a0) 2).bind fun b15 =>
    (fX2_atom K x3.1 rs b15).bind fun x16 =>
    tb x16 (fun q17 => some (x16.1, .inl q17)) fun v18 =>
    (rcv K x16.1 a1 9).bind fun b20 =>
    (fX11_add K x16.1 b20 (42 : Int32) v18).bind fun x21 =>
    fX2_product_20 K a0 rs n x21 a1 a2
def fX2_product (K : KE) (h : HS) (rs : Nat → HS → Nat → Option (HS × (Nat ⊕ Option Nat))) (a0 : Nat) : Option (HS × (Nat ⊕ Option Nat)) :=
  (alc K h (.inr (9, df9)) 2).bind fun h1 =>
  (fX11_init K h1 h.2.1).bind fun x2 =>
  (rcv K x2 (some a0) 2).bind fun b3 =>
  (fX2_atom K x2 rs b3).bind fun x4 =>
  tb x4 (fun q5 => some (x4.1, .inl q5)) fun v6 =>
  (rcv K x4.1 (some h.2.1) 9).bind fun b8 =>
  (fX11_add K x4.1 b8 (42 : Int32) v6).bind fun x9 =>
  fX2_product_20 K a0 rs FU x9 (some h.2.1) (1 : Int32)
set_option maxHeartbeats 4000000 in
theorem wX2_product_20 {p : Program} {l : Launch} {e : Env} {s : State} {m : MethodId} {args : Array Value} {below : List Frame} {meth : Method} {c : Code} {A : Nat → Prop} {D : va_G} {ac : Nat → ClassId} {K : KE} {h0 : HS} {a0 : Nat} {fr lo : Nat} (S : CallFix p m c cX2_product 3 s args lw_all RX2) (hr : meth.sig.returnType = some (.object "FourOnOne$Value")) (hlk : meth.locks = false) (hnm : meth.name = "product") (hEx : ∀ x ∈ c.exceptionTable.toList, False) (hG : GK A D ac K s) (hRM : RM K s (rmC (fr + 13) (lo + 665) K h0)) {rs : Nat → HS → Nat → Option (HS × (Nat ⊕ Option Nat))} (hfr : 60 ≤ fr ∧ 1000 ≤ lo) (hrc : ROK l A D ac K fr lo rs) {x : HS × (Nat ⊕ Option Nat)} : ∀ (n : Nat) (h : HS) (a1 : Option Nat) (a2 : Int32), fX2_product_20 K a0 rs n h a1 a2 = some x → cGo p l e (rmC (fr + 13) (lo + 665) K h0) s m args below meth c A D ac K (vy_MQ below (tQq A D ac K x) (tX A D ac K x) args s (K.2.2.1 - h0.2.1) (K.2.2.2 - h0.2.2) A) 3 20 [(0, va_rf (some a0)), (1, va_rf a1), (2, .int a2)] [] h := by
  obtain ⟨hx, hb, hml, hown, hts⟩ := id S
  intro n
  induction n with
  | zero => intro h a1 a2 z; cases z
  | succ n ih =>
    intro h a1 a2 z H locs hH hS ls hl
    rw [fX2_product_20] at z
    refine lv_iload_n hx hb dX2_product_20 rfl (lv_at hl 2 rfl) ?_
    refine lv_if_eq (tgt := 73) hx hb dX2_product_21 (by decide) (fun c1 => ?_) (fun c1 => ?_)
    · replace z := it c1 z
      refine c_aload_n hx hb dX2_product_73 rfl (lv_at hl 1 rfl) ?_
      exact t_aret S hr (Or.inl ⟨_, rfl⟩) hlk hH hS z dX2_product_74
    replace z := ie c1 z
    refine c_aload_n hx hb dX2_product_24 rfl (lv_at hl 0 rfl) ?_
    refine lv_bipush (v := (42 : Int32)) hx hb dX2_product_25 (by decide) ?_
    replace z := ob z
    obtain ⟨b2, zb2, z⟩ := z
    obtain ⟨yb2, zb2⟩ := rcv_e zb2
    replace z := ob z
    obtain ⟨x3, zx3, z⟩ := z
    refine c_calli hH hS hRM (fun _ _ f1 f2 => va_runV (b := b2) (As := [.int (42 : Int32)]) (rest := []) S (metX2_takes zx3) (cwV 1 hts (lw_V q1180 q1182 qs30 q172 q1183) rfl rfl rfl (by decide +kernel) ⟨by dsimp only; omega, by dsimp only; omega⟩) (c_preV hG hH hS (ci := 2) rfl zb2) rfl rfl hl.1 (by rw [yb2]; rfl) (lv_room (Nat.le_of_ble_eq_true rfl)) dX2_product_27 ⟨f1, f2⟩) (fun H locs hH hS => ?_)
    refine lv_if_eq (tgt := 46) hx hb dX2_product_30 (by decide) (fun c4 => ?_) (fun c4 => ?_)
    rotate_left 1
    · replace z := ie c4 z
      refine c_aload_n hx hb dX2_product_33 rfl (lv_at hl 1 rfl) ?_
      refine lv_bipush (v := (42 : Int32)) hx hb dX2_product_34 (by decide) ?_
      refine c_aload_n hx hb dX2_product_36 rfl (lv_at hl 0 rfl) ?_
      replace z := ob z
      obtain ⟨b15, zb15, z⟩ := z
      obtain ⟨yb15, zb15⟩ := rcv_e zb15
      replace z := ob z
      obtain ⟨x16, zx16, z⟩ := z
      refine t_callq hH hS hRM (fun _ _ f1 f2 => vy_runV (b := b15) (As := []) (rest := [.int (42 : Int32), va_rf a1]) S (metX2_atom hfr hrc zx16) (cwV 0 hts (lw_V q1041 q1043 qs25 q172 q1044) rfl rfl rfl (by decide +kernel) ⟨by dsimp only; omega, by dsimp only; omega⟩) (c_preV hG hH hS (ci := 2) rfl zb15) rfl rfl hl.1 (by rw [yb15]; rfl) (lv_room (by simp [ct_r, ct_i, ct_l])) dX2_product_37 ⟨f1, f2⟩) (fun q17 H locs ce e19 hH hS g1 g2 g3 => ?_) (fun v18 H locs e19 hH hS => ?_)
      · replace z := tb_l e19 z
        exact t_prop hEx hlk hH hS g1 g2 g3 z
      replace z := tb_r e19 z
      replace z := ob z
      obtain ⟨b20, zb20, z⟩ := z
      obtain ⟨yb20, zb20⟩ := rcv_e zb20
      replace z := ob z
      obtain ⟨x21, zx21, z⟩ := z
      refine c_callv hH hS hRM (fun _ _ f1 f2 => va_runV (b := b20) (As := [.int (42 : Int32), va_rf v18]) (rest := []) S (metX11_add zx21) (cwV 2 hts (lw_V q1119 q1120 q1121 q193 q1122) rfl rfl rfl (by decide +kernel) ⟨by dsimp only; omega, by dsimp only; omega⟩) (c_preV hG hH hS (ci := 9) rfl zb20) rfl rfl hl.1 (by rw [yb20]; rfl) (lv_room (Nat.le_of_ble_eq_true rfl)) dX2_product_40 ⟨f1, f2⟩) (fun H locs hH hS => ?_)
      refine lv_goto (tgt := 20) hx hb dX2_product_43 (by decide) ?_
      exact ih x21 a1 a2 z _ _ hH hS _ (lv_sub hl [0, 1, 2] rfl)
    replace z := it c4 z
    refine c_aload_n hx hb dX2_product_46 rfl (lv_at hl 0 rfl) ?_
    refine lv_bipush (v := (47 : Int32)) hx hb dX2_product_47 (by decide) ?_
    replace z := ob z
    obtain ⟨b5, zb5, z⟩ := z
    obtain ⟨yb5, zb5⟩ := rcv_e zb5
    replace z := ob z
    obtain ⟨x6, zx6, z⟩ := z
    refine c_calli hH hS hRM (fun _ _ f1 f2 => va_runV (b := b5) (As := [.int (47 : Int32)]) (rest := []) S (metX2_takes zx6) (cwV 1 hts (lw_V q1180 q1182 qs30 q172 q1183) rfl rfl rfl (by decide +kernel) ⟨by dsimp only; omega, by dsimp only; omega⟩) (c_preV hG hH hS (ci := 2) rfl zb5) rfl rfl hl.1 (by rw [yb5]; rfl) (lv_room (Nat.le_of_ble_eq_true rfl)) dX2_product_49 ⟨f1, f2⟩) (fun H locs hH hS => ?_)
    refine lv_if_eq (tgt := 68) hx hb dX2_product_52 (by decide) (fun c7 => ?_) (fun c7 => ?_)
    · replace z := it c7 z
      refine lv_iconst (v := (0 : Int32)) hx hb dX2_product_68 (by decide) ?_
      refine lv_istore_n (i := 2) (lv' := [(2, .int (0 : Int32)), (0, va_rf (some a0)), (1, va_rf a1)]) hx hb dX2_product_69 rfl hl (by decide) (by simp [List.filter, ct_r, ct_i, ct_l]) (fun ls hl => ?_)
      refine lv_goto (tgt := 20) hx hb dX2_product_70 (by decide) ?_
      exact ih x6.1 a1 (0 : Int32) z _ _ hH hS _ (lv_sub hl [1, 2, 0] rfl)
    replace z := ie c7 z
    refine c_aload_n hx hb dX2_product_55 rfl (lv_at hl 1 rfl) ?_
    refine lv_bipush (v := (47 : Int32)) hx hb dX2_product_56 (by decide) ?_
    refine c_aload_n hx hb dX2_product_58 rfl (lv_at hl 0 rfl) ?_
    replace z := ob z
    obtain ⟨b8, zb8, z⟩ := z
    obtain ⟨yb8, zb8⟩ := rcv_e zb8
    replace z := ob z
    obtain ⟨x9, zx9, z⟩ := z
    refine t_callq hH hS hRM (fun _ _ f1 f2 => vy_runV (b := b8) (As := []) (rest := [.int (47 : Int32), va_rf a1]) S (metX2_atom hfr hrc zx9) (cwV 0 hts (lw_V q1041 q1043 qs25 q172 q1044) rfl rfl rfl (by decide +kernel) ⟨by dsimp only; omega, by dsimp only; omega⟩) (c_preV hG hH hS (ci := 2) rfl zb8) rfl rfl hl.1 (by rw [yb8]; rfl) (lv_room (by simp [ct_r, ct_i, ct_l])) dX2_product_59 ⟨f1, f2⟩) (fun q10 H locs ce e12 hH hS g1 g2 g3 => ?_) (fun v11 H locs e12 hH hS => ?_)
    · replace z := tb_l e12 z
      exact t_prop hEx hlk hH hS g1 g2 g3 z
    replace z := tb_r e12 z
    replace z := ob z
    obtain ⟨b13, zb13, z⟩ := z
    obtain ⟨yb13, zb13⟩ := rcv_e zb13
    replace z := ob z
    obtain ⟨x14, zx14, z⟩ := z
    refine c_callv hH hS hRM (fun _ _ f1 f2 => va_runV (b := b13) (As := [.int (47 : Int32), va_rf v11]) (rest := []) S (metX11_add zx14) (cwV 2 hts (lw_V q1119 q1120 q1121 q193 q1122) rfl rfl rfl (by decide +kernel) ⟨by dsimp only; omega, by dsimp only; omega⟩) (c_preV hG hH hS (ci := 9) rfl zb13) rfl rfl hl.1 (by rw [yb13]; rfl) (lv_room (Nat.le_of_ble_eq_true rfl)) dX2_product_62 ⟨f1, f2⟩) (fun H locs hH hS => ?_)
    refine lv_goto (tgt := 20) hx hb dX2_product_65 (by decide) ?_
    exact ih x14 a1 a2 z _ _ hH hS _ (lv_sub hl [0, 1, 2] rfl)
set_option maxHeartbeats 4000000 in
theorem metX2_product {l : Launch} {A : Nat → Prop} {D : va_G} {ac : Nat → ClassId} {K : KE} {h : HS} {fr lo : Nat} {rs : Nat → HS → Nat → Option (HS × (Nat ⊕ Option Nat))} (hfr : 60 ≤ fr ∧ 1000 ≤ lo) (hrc : ROK l A D ac K fr lo rs) {a0 : Nat} {x : HS × (Nat ⊕ Option Nat)} (z : fX2_product K h rs a0 = some x) : vy_Met l yX2_product (ws_ yX2_product cX2_product 3 (some (.object "FourOnOne$Value"))) (rmC (fr + 13) (lo + 665) K h) (cP A D ac K h [va_rf (some a0)]) (tQq A D ac K x) (tX A D ac K x) (K.2.2.1 - h.2.1) (K.2.2.2 - h.2.2) A := by
  refine t_entry (by decide) (Nat.le_of_ble_eq_true rfl) ?_
  intro p e s m below meth c S hr hlk hnm hEx hG hRM hH hS ls hl
  replace hl : lv_has ls 3 [(0, va_rf (some a0))] := hl
  replace hnm : meth.name = "product" := hnm
  replace S : CallFix p m c cX2_product 3 s _ lw_all RX2 := S
  obtain ⟨hx, hb, hml, hown, hts⟩ := id S
  unfold fX2_product at z
  replace z := ob z
  obtain ⟨h1, zh1, z⟩ := z
  refine c_new S hG hH hS hRM (ci := 9) rfl in_X11 tyX11 tyX11_ok q996 q997 q193 df9_ok zh1 dX2_product_0 (fun H locs hH hS => ?_)
  refine lv_dup hx hb dX2_product_3 (ct_r _) ?_
  replace z := ob z
  obtain ⟨x2, zx2, z⟩ := z
  refine c_callv hH hS hRM (fun _ _ f1 f2 => va_runIN (b := h.2.1) (As := []) (rest := [va_rf (some h.2.1)]) S (metX11_init zx2) ⟨va_cnB 0 hts (lw_meth q1000) rfl rfl rfl (hG.2.1.2.1 _ _ _ _ q998) (hts _ q193) (by decide +kernel) ⟨by dsimp only; omega, by dsimp only; omega⟩, rfl, hts _ q999⟩ (c_pre hG hH hS) rfl rfl hl.1 rfl (lv_room (by simp [ct_r, ct_i, ct_l])) dX2_product_4 ⟨f1, f2⟩) (fun H locs hH hS => ?_)
  refine c_astore_n (lv' := [(1, va_rf (some h.2.1)), (0, va_rf (some a0))]) hx hb dX2_product_7 rfl hl (by decide) rfl (fun ls hl => ?_)
  refine c_aload_n hx hb dX2_product_8 rfl (lv_at hl 0 rfl) ?_
  refine lv_bipush (v := (42 : Int32)) hx hb dX2_product_9 (by decide) ?_
  refine c_aload_n hx hb dX2_product_11 rfl (lv_at hl 1 rfl) ?_
  replace z := ob z
  obtain ⟨b3, zb3, z⟩ := z
  obtain ⟨yb3, zb3⟩ := rcv_e zb3
  replace z := ob z
  obtain ⟨x4, zx4, z⟩ := z
  refine t_callq hH hS hRM (fun _ _ f1 f2 => vy_runV (b := b3) (As := []) (rest := [.int (42 : Int32), va_rf (some h.2.1)]) S (metX2_atom hfr hrc zx4) (cwV 0 hts (lw_V q1041 q1043 qs25 q172 q1044) rfl rfl rfl (by decide +kernel) ⟨by dsimp only; omega, by dsimp only; omega⟩) (c_preV hG hH hS (ci := 2) rfl zb3) rfl rfl hl.1 (by rw [yb3]; rfl) (lv_room (by simp [ct_r, ct_i, ct_l])) dX2_product_12 ⟨f1, f2⟩) (fun q5 H locs ce e7 hH hS g1 g2 g3 => ?_) (fun v6 H locs e7 hH hS => ?_)
  · replace z := tb_l e7 z
    exact t_prop hEx hlk hH hS g1 g2 g3 z
  replace z := tb_r e7 z
  replace z := ob z
  obtain ⟨b8, zb8, z⟩ := z
  obtain ⟨yb8, zb8⟩ := rcv_e zb8
  replace z := ob z
  obtain ⟨x9, zx9, z⟩ := z
  refine c_callv hH hS hRM (fun _ _ f1 f2 => va_runV (b := b8) (As := [.int (42 : Int32), va_rf v6]) (rest := []) S (metX11_add zx9) (cwV 2 hts (lw_V q1119 q1120 q1121 q193 q1122) rfl rfl rfl (by decide +kernel) ⟨by dsimp only; omega, by dsimp only; omega⟩) (c_preV hG hH hS (ci := 9) rfl zb8) rfl rfl hl.1 (by rw [yb8]; rfl) (lv_room (Nat.le_of_ble_eq_true rfl)) dX2_product_15 ⟨f1, f2⟩) (fun H locs hH hS => ?_)
  refine lv_iconst (v := (1 : Int32)) hx hb dX2_product_18 (by decide) ?_
  refine lv_istore_n (i := 2) (lv' := [(2, .int (1 : Int32)), (1, va_rf (some h.2.1)), (0, va_rf (some a0))]) hx hb dX2_product_19 rfl hl (by decide) (by simp [List.filter, ct_r, ct_i, ct_l]) (fun ls hl => ?_)
  exact wX2_product_20 S hr hlk hnm hEx hG hRM hfr hrc FU x9 (some h.2.1) (1 : Int32) z _ _ hH hS _ (lv_sub hl [2, 1, 0] rfl)
/-! FourOnOne$Reader.sum()LFourOnOne$Value; -/
def fX2_sum_20 (K : KE) (a0 : Nat) (rs : Nat → HS → Nat → Option (HS × (Nat ⊕ Option Nat))) : Nat → HS → Option Nat → Int32 → Option (HS × (Nat ⊕ Option Nat))
  | 0, _, _, _ => none
  | n + 1, h, a1, a2 =>
    if a2 = 0 then
      some (h, .inr a1)
    else
    (rcv K h (some a0) 2).bind fun b2 =>
    (fX2_takes K h b2 (43 : Int32)).bind fun x3 =>
    if x3.2 = 0 then
      (rcv K x3.1 (some a0) 2).bind fun b5 =>
      (fX2_takes K x3.1 b5 (45 : Int32)).bind fun x6 =>
      if x6.2 = 0 then
        fX2_sum_20 K a0 rs n x6.1 a1 (0 : Int32)
      else
      (rcv K x6.1 (some a0) 2).bind fun b8 =>
      (fX2_product K x6.1 rs b8).bind fun x9 =>
      tb x9 (fun q10 => some (x9.1, .inl q10)) fun v11 =>
      (rcv K x9.1 a1 9).bind fun b13 =>
      (fX11_add K x9.1 b13 (45 : Int32) v11).bind fun x14 =>
      fX2_sum_20 K a0 rs n x14 a1 a2
    else
    (rcv K x3.1 (some a0) 2).bind fun b15 =>
    (fX2_product K x3.1 rs b15).bind fun x16 =>
    tb x16 (fun q17 => some (x16.1, .inl q17)) fun v18 =>
    (rcv K x16.1 a1 9).bind fun b20 =>
    (fX11_add K x16.1 b20 (43 : Int32) v18).bind fun x21 =>
    fX2_sum_20 K a0 rs n x21 a1 a2
def fX2_sum (K : KE) (h : HS) (rs : Nat → HS → Nat → Option (HS × (Nat ⊕ Option Nat))) (a0 : Nat) : Option (HS × (Nat ⊕ Option Nat)) :=
  (alc K h (.inr (9, df9)) 2).bind fun h1 =>
  (fX11_init K h1 h.2.1).bind fun x2 =>
  (rcv K x2 (some a0) 2).bind fun b3 =>
  (fX2_product K x2 rs b3).bind fun x4 =>
  tb x4 (fun q5 => some (x4.1, .inl q5)) fun v6 =>
  (rcv K x4.1 (some h.2.1) 9).bind fun b8 =>
  (fX11_add K x4.1 b8 (43 : Int32) v6).bind fun x9 =>
  fX2_sum_20 K a0 rs FU x9 (some h.2.1) (1 : Int32)
set_option maxHeartbeats 4000000 in
theorem wX2_sum_20 {p : Program} {l : Launch} {e : Env} {s : State} {m : MethodId} {args : Array Value} {below : List Frame} {meth : Method} {c : Code} {A : Nat → Prop} {D : va_G} {ac : Nat → ClassId} {K : KE} {h0 : HS} {a0 : Nat} {fr lo : Nat} (S : CallFix p m c cX2_sum 3 s args lw_all RX2) (hr : meth.sig.returnType = some (.object "FourOnOne$Value")) (hlk : meth.locks = false) (hnm : meth.name = "sum") (hEx : ∀ x ∈ c.exceptionTable.toList, False) (hG : GK A D ac K s) (hRM : RM K s (rmC (fr + 14) (lo + 687) K h0)) {rs : Nat → HS → Nat → Option (HS × (Nat ⊕ Option Nat))} (hfr : 60 ≤ fr ∧ 1000 ≤ lo) (hrc : ROK l A D ac K fr lo rs) {x : HS × (Nat ⊕ Option Nat)} : ∀ (n : Nat) (h : HS) (a1 : Option Nat) (a2 : Int32), fX2_sum_20 K a0 rs n h a1 a2 = some x → cGo p l e (rmC (fr + 14) (lo + 687) K h0) s m args below meth c A D ac K (vy_MQ below (tQq A D ac K x) (tX A D ac K x) args s (K.2.2.1 - h0.2.1) (K.2.2.2 - h0.2.2) A) 3 20 [(0, va_rf (some a0)), (1, va_rf a1), (2, .int a2)] [] h := by
  obtain ⟨hx, hb, hml, hown, hts⟩ := id S
  intro n
  induction n with
  | zero => intro h a1 a2 z; cases z
  | succ n ih =>
    intro h a1 a2 z H locs hH hS ls hl
    rw [fX2_sum_20] at z
    refine lv_iload_n hx hb dX2_sum_20 rfl (lv_at hl 2 rfl) ?_
    refine lv_if_eq (tgt := 73) hx hb dX2_sum_21 (by decide) (fun c1 => ?_) (fun c1 => ?_)
    · replace z := it c1 z
      refine c_aload_n hx hb dX2_sum_73 rfl (lv_at hl 1 rfl) ?_
      exact t_aret S hr (Or.inl ⟨_, rfl⟩) hlk hH hS z dX2_sum_74
    replace z := ie c1 z
    refine c_aload_n hx hb dX2_sum_24 rfl (lv_at hl 0 rfl) ?_
    refine lv_bipush (v := (43 : Int32)) hx hb dX2_sum_25 (by decide) ?_
    replace z := ob z
    obtain ⟨b2, zb2, z⟩ := z
    obtain ⟨yb2, zb2⟩ := rcv_e zb2
    replace z := ob z
    obtain ⟨x3, zx3, z⟩ := z
    refine c_calli hH hS hRM (fun _ _ f1 f2 => va_runV (b := b2) (As := [.int (43 : Int32)]) (rest := []) S (metX2_takes zx3) (cwV 1 hts (lw_V q1180 q1182 qs30 q172 q1183) rfl rfl rfl (by decide +kernel) ⟨by dsimp only; omega, by dsimp only; omega⟩) (c_preV hG hH hS (ci := 2) rfl zb2) rfl rfl hl.1 (by rw [yb2]; rfl) (lv_room (Nat.le_of_ble_eq_true rfl)) dX2_sum_27 ⟨f1, f2⟩) (fun H locs hH hS => ?_)
    refine lv_if_eq (tgt := 46) hx hb dX2_sum_30 (by decide) (fun c4 => ?_) (fun c4 => ?_)
    rotate_left 1
    · replace z := ie c4 z
      refine c_aload_n hx hb dX2_sum_33 rfl (lv_at hl 1 rfl) ?_
      refine lv_bipush (v := (43 : Int32)) hx hb dX2_sum_34 (by decide) ?_
      refine c_aload_n hx hb dX2_sum_36 rfl (lv_at hl 0 rfl) ?_
      replace z := ob z
      obtain ⟨b15, zb15, z⟩ := z
      obtain ⟨yb15, zb15⟩ := rcv_e zb15
      replace z := ob z
      obtain ⟨x16, zx16, z⟩ := z
      refine t_callq hH hS hRM (fun _ _ f1 f2 => vy_runV (b := b15) (As := []) (rest := [.int (43 : Int32), va_rf a1]) S (metX2_product hfr hrc zx16) (cwV 0 hts (lw_V q1037 q1039 qs24 q172 q1040) rfl rfl rfl (by decide +kernel) ⟨by dsimp only; omega, by dsimp only; omega⟩) (c_preV hG hH hS (ci := 2) rfl zb15) rfl rfl hl.1 (by rw [yb15]; rfl) (lv_room (by simp [ct_r, ct_i, ct_l])) dX2_sum_37 ⟨f1, f2⟩) (fun q17 H locs ce e19 hH hS g1 g2 g3 => ?_) (fun v18 H locs e19 hH hS => ?_)
      · replace z := tb_l e19 z
        exact t_prop hEx hlk hH hS g1 g2 g3 z
      replace z := tb_r e19 z
      replace z := ob z
      obtain ⟨b20, zb20, z⟩ := z
      obtain ⟨yb20, zb20⟩ := rcv_e zb20
      replace z := ob z
      obtain ⟨x21, zx21, z⟩ := z
      refine c_callv hH hS hRM (fun _ _ f1 f2 => va_runV (b := b20) (As := [.int (43 : Int32), va_rf v18]) (rest := []) S (metX11_add zx21) (cwV 2 hts (lw_V q1119 q1120 q1121 q193 q1122) rfl rfl rfl (by decide +kernel) ⟨by dsimp only; omega, by dsimp only; omega⟩) (c_preV hG hH hS (ci := 9) rfl zb20) rfl rfl hl.1 (by rw [yb20]; rfl) (lv_room (Nat.le_of_ble_eq_true rfl)) dX2_sum_40 ⟨f1, f2⟩) (fun H locs hH hS => ?_)
      refine lv_goto (tgt := 20) hx hb dX2_sum_43 (by decide) ?_
      exact ih x21 a1 a2 z _ _ hH hS _ (lv_sub hl [0, 1, 2] rfl)
    replace z := it c4 z
    refine c_aload_n hx hb dX2_sum_46 rfl (lv_at hl 0 rfl) ?_
    refine lv_bipush (v := (45 : Int32)) hx hb dX2_sum_47 (by decide) ?_
    replace z := ob z
    obtain ⟨b5, zb5, z⟩ := z
    obtain ⟨yb5, zb5⟩ := rcv_e zb5
    replace z := ob z
    obtain ⟨x6, zx6, z⟩ := z
    refine c_calli hH hS hRM (fun _ _ f1 f2 => va_runV (b := b5) (As := [.int (45 : Int32)]) (rest := []) S (metX2_takes zx6) (cwV 1 hts (lw_V q1180 q1182 qs30 q172 q1183) rfl rfl rfl (by decide +kernel) ⟨by dsimp only; omega, by dsimp only; omega⟩) (c_preV hG hH hS (ci := 2) rfl zb5) rfl rfl hl.1 (by rw [yb5]; rfl) (lv_room (Nat.le_of_ble_eq_true rfl)) dX2_sum_49 ⟨f1, f2⟩) (fun H locs hH hS => ?_)
    refine lv_if_eq (tgt := 68) hx hb dX2_sum_52 (by decide) (fun c7 => ?_) (fun c7 => ?_)
    · replace z := it c7 z
      refine lv_iconst (v := (0 : Int32)) hx hb dX2_sum_68 (by decide) ?_
      refine lv_istore_n (i := 2) (lv' := [(2, .int (0 : Int32)), (0, va_rf (some a0)), (1, va_rf a1)]) hx hb dX2_sum_69 rfl hl (by decide) (by simp [List.filter, ct_r, ct_i, ct_l]) (fun ls hl => ?_)
      refine lv_goto (tgt := 20) hx hb dX2_sum_70 (by decide) ?_
      exact ih x6.1 a1 (0 : Int32) z _ _ hH hS _ (lv_sub hl [1, 2, 0] rfl)
    replace z := ie c7 z
    refine c_aload_n hx hb dX2_sum_55 rfl (lv_at hl 1 rfl) ?_
    refine lv_bipush (v := (45 : Int32)) hx hb dX2_sum_56 (by decide) ?_
    refine c_aload_n hx hb dX2_sum_58 rfl (lv_at hl 0 rfl) ?_
    replace z := ob z
    obtain ⟨b8, zb8, z⟩ := z
    obtain ⟨yb8, zb8⟩ := rcv_e zb8
    replace z := ob z
    obtain ⟨x9, zx9, z⟩ := z
    refine t_callq hH hS hRM (fun _ _ f1 f2 => vy_runV (b := b8) (As := []) (rest := [.int (45 : Int32), va_rf a1]) S (metX2_product hfr hrc zx9) (cwV 0 hts (lw_V q1037 q1039 qs24 q172 q1040) rfl rfl rfl (by decide +kernel) ⟨by dsimp only; omega, by dsimp only; omega⟩) (c_preV hG hH hS (ci := 2) rfl zb8) rfl rfl hl.1 (by rw [yb8]; rfl) (lv_room (by simp [ct_r, ct_i, ct_l])) dX2_sum_59 ⟨f1, f2⟩) (fun q10 H locs ce e12 hH hS g1 g2 g3 => ?_) (fun v11 H locs e12 hH hS => ?_)
    · replace z := tb_l e12 z
      exact t_prop hEx hlk hH hS g1 g2 g3 z
    replace z := tb_r e12 z
    replace z := ob z
    obtain ⟨b13, zb13, z⟩ := z
    obtain ⟨yb13, zb13⟩ := rcv_e zb13
    replace z := ob z
    obtain ⟨x14, zx14, z⟩ := z
    refine c_callv hH hS hRM (fun _ _ f1 f2 => va_runV (b := b13) (As := [.int (45 : Int32), va_rf v11]) (rest := []) S (metX11_add zx14) (cwV 2 hts (lw_V q1119 q1120 q1121 q193 q1122) rfl rfl rfl (by decide +kernel) ⟨by dsimp only; omega, by dsimp only; omega⟩) (c_preV hG hH hS (ci := 9) rfl zb13) rfl rfl hl.1 (by rw [yb13]; rfl) (lv_room (Nat.le_of_ble_eq_true rfl)) dX2_sum_62 ⟨f1, f2⟩) (fun H locs hH hS => ?_)
    refine lv_goto (tgt := 20) hx hb dX2_sum_65 (by decide) ?_
    exact ih x14 a1 a2 z _ _ hH hS _ (lv_sub hl [0, 1, 2] rfl)
set_option maxHeartbeats 4000000 in
theorem metX2_sum {l : Launch} {A : Nat → Prop} {D : va_G} {ac : Nat → ClassId} {K : KE} {h : HS} {fr lo : Nat} {rs : Nat → HS → Nat → Option (HS × (Nat ⊕ Option Nat))} (hfr : 60 ≤ fr ∧ 1000 ≤ lo) (hrc : ROK l A D ac K fr lo rs) {a0 : Nat} {x : HS × (Nat ⊕ Option Nat)} (z : fX2_sum K h rs a0 = some x) : vy_Met l yX2_sum (ws_ yX2_sum cX2_sum 3 (some (.object "FourOnOne$Value"))) (rmC (fr + 14) (lo + 687) K h) (cP A D ac K h [va_rf (some a0)]) (tQq A D ac K x) (tX A D ac K x) (K.2.2.1 - h.2.1) (K.2.2.2 - h.2.2) A := by
  refine t_entry (by decide) (Nat.le_of_ble_eq_true rfl) ?_
  intro p e s m below meth c S hr hlk hnm hEx hG hRM hH hS ls hl
  replace hl : lv_has ls 3 [(0, va_rf (some a0))] := hl
  replace hnm : meth.name = "sum" := hnm
  replace S : CallFix p m c cX2_sum 3 s _ lw_all RX2 := S
  obtain ⟨hx, hb, hml, hown, hts⟩ := id S
  unfold fX2_sum at z
  replace z := ob z
  obtain ⟨h1, zh1, z⟩ := z
  refine c_new S hG hH hS hRM (ci := 9) rfl in_X11 tyX11 tyX11_ok q996 q997 q193 df9_ok zh1 dX2_sum_0 (fun H locs hH hS => ?_)
  refine lv_dup hx hb dX2_sum_3 (ct_r _) ?_
  replace z := ob z
  obtain ⟨x2, zx2, z⟩ := z
  refine c_callv hH hS hRM (fun _ _ f1 f2 => va_runIN (b := h.2.1) (As := []) (rest := [va_rf (some h.2.1)]) S (metX11_init zx2) ⟨va_cnB 0 hts (lw_meth q1000) rfl rfl rfl (hG.2.1.2.1 _ _ _ _ q998) (hts _ q193) (by decide +kernel) ⟨by dsimp only; omega, by dsimp only; omega⟩, rfl, hts _ q999⟩ (c_pre hG hH hS) rfl rfl hl.1 rfl (lv_room (by simp [ct_r, ct_i, ct_l])) dX2_sum_4 ⟨f1, f2⟩) (fun H locs hH hS => ?_)
  refine c_astore_n (lv' := [(1, va_rf (some h.2.1)), (0, va_rf (some a0))]) hx hb dX2_sum_7 rfl hl (by decide) rfl (fun ls hl => ?_)
  refine c_aload_n hx hb dX2_sum_8 rfl (lv_at hl 0 rfl) ?_
  refine lv_bipush (v := (43 : Int32)) hx hb dX2_sum_9 (by decide) ?_
  refine c_aload_n hx hb dX2_sum_11 rfl (lv_at hl 1 rfl) ?_
  replace z := ob z
  obtain ⟨b3, zb3, z⟩ := z
  obtain ⟨yb3, zb3⟩ := rcv_e zb3
  replace z := ob z
  obtain ⟨x4, zx4, z⟩ := z
  refine t_callq hH hS hRM (fun _ _ f1 f2 => vy_runV (b := b3) (As := []) (rest := [.int (43 : Int32), va_rf (some h.2.1)]) S (metX2_product hfr hrc zx4) (cwV 0 hts (lw_V q1037 q1039 qs24 q172 q1040) rfl rfl rfl (by decide +kernel) ⟨by dsimp only; omega, by dsimp only; omega⟩) (c_preV hG hH hS (ci := 2) rfl zb3) rfl rfl hl.1 (by rw [yb3]; rfl) (lv_room (by simp [ct_r, ct_i, ct_l])) dX2_sum_12 ⟨f1, f2⟩) (fun q5 H locs ce e7 hH hS g1 g2 g3 => ?_) (fun v6 H locs e7 hH hS => ?_)
  · replace z := tb_l e7 z
    exact t_prop hEx hlk hH hS g1 g2 g3 z
  replace z := tb_r e7 z
  replace z := ob z
  obtain ⟨b8, zb8, z⟩ := z
  obtain ⟨yb8, zb8⟩ := rcv_e zb8
  replace z := ob z
  obtain ⟨x9, zx9, z⟩ := z
  refine c_callv hH hS hRM (fun _ _ f1 f2 => va_runV (b := b8) (As := [.int (43 : Int32), va_rf v6]) (rest := []) S (metX11_add zx9) (cwV 2 hts (lw_V q1119 q1120 q1121 q193 q1122) rfl rfl rfl (by decide +kernel) ⟨by dsimp only; omega, by dsimp only; omega⟩) (c_preV hG hH hS (ci := 9) rfl zb8) rfl rfl hl.1 (by rw [yb8]; rfl) (lv_room (Nat.le_of_ble_eq_true rfl)) dX2_sum_15 ⟨f1, f2⟩) (fun H locs hH hS => ?_)
  refine lv_iconst (v := (1 : Int32)) hx hb dX2_sum_18 (by decide) ?_
  refine lv_istore_n (i := 2) (lv' := [(2, .int (1 : Int32)), (1, va_rf (some h.2.1)), (0, va_rf (some a0))]) hx hb dX2_sum_19 rfl hl (by decide) (by simp [List.filter, ct_r, ct_i, ct_l]) (fun ls hl => ?_)
  exact wX2_sum_20 S hr hlk hnm hEx hG hRM hfr hrc FU x9 (some h.2.1) (1 : Int32) z _ _ hH hS _ (lv_sub hl [2, 1, 0] rfl)
/-! FourOnOne$Reader.fact()LFourOnOne$Test; -/
def fX2_fact_148 (K : KE) (a0 : Nat) (rs : Nat → HS → Nat → Option (HS × (Nat ⊕ Option Nat))) (h : HS) (a1 : Option Nat) (a2 : Int32) : Option (HS × (Nat ⊕ Option Nat)) :=
  (gI K h (some a0) 2 2).bind fun v1 =>
  (pV h (some a0) 2 2 (.int (v1 + (1 : Int32)))).bind fun h2 =>
  (alc K h2 (.inr (17, df17)) 3).bind fun h3 =>
  (rcv K h3 (some a0) 2).bind fun b4 =>
  (fX2_sum K h3 rs b4).bind fun x5 =>
  tb x5 (fun q6 => some (x5.1, .inl q6)) fun v7 =>
  (fX20_init K x5.1 h2.2.1 a1 a2 v7).bind fun x9 =>
  some (x9, .inr (some h2.2.1))
def fX2_fact (K : KE) (h : HS) (rs : Nat → HS → Nat → Option (HS × (Nat ⊕ Option Nat))) (a0 : Nat) : Option (HS × (Nat ⊕ Option Nat)) :=
  (rcv K h (some a0) 2).bind fun b1 =>
  (fX2_here K h b1).bind fun x2 =>
  if x2.2 = (91 : Int32) then
    (gI K x2.1 (some a0) 2 2).bind fun v47 =>
    (rcv K x2.1 (some a0) 2).bind fun b48 =>
    (fX2_opens K x2.1 b48 v47).bind fun x49 =>
    tb x49 (fun q50 => some (x49.1, .inl q50)) fun v51 =>
    (gI K x49.1 (some a0) 2 2).bind fun v53 =>
    (pV x49.1 (some a0) 2 2 (.int (v53 + (1 : Int32)))).bind fun h54 =>
    (rcv K h54 (some a0) 2).bind fun b55 =>
    (rs 2 h54 b55).bind fun x56 =>
    tb x56 (fun q57 => some (x56.1, .inl q57)) fun v58 =>
    (rcv K x56.1 (some a0) 2).bind fun b60 =>
    (fX2_must K x56.1 b60 (93 : Int32)).bind fun x61 =>
    tb x61 (fun q62 => some (x61.1, .inl q62)) fun v63 =>
    (gI K x61.1 (some a0) 2 4).bind fun v65 =>
    (pV x61.1 (some a0) 2 4 (.int (v65 - (1 : Int32)))).bind fun h66 =>
    some (h66, .inr v58)
  else
  (rcv K x2.1 (some a0) 2).bind fun b4 =>
  (fX2_passes K x2.1 b4 (K.2.1 30)).bind fun x5 =>
  tb x5 (fun q6 => some (x5.1, .inl q6)) fun v7 =>
  if v7 = 0 then
    (rcv K x5.1 (some a0) 2).bind fun b10 =>
    (fX2_passes K x5.1 b10 (K.2.1 31)).bind fun x11 =>
    tb x11 (fun q12 => some (x11.1, .inl q12)) fun v13 =>
    if v13 = 0 then
      (rcv K x11.1 (some a0) 2).bind fun b16 =>
      (fX2_sum K x11.1 rs b16).bind fun x17 =>
      tb x17 (fun q18 => some (x17.1, .inl q18)) fun v19 =>
      (rcv K x17.1 (some a0) 2).bind fun b21 =>
      (fX2_here K x17.1 b21).bind fun x22 =>
      if x22.2 = (60 : Int32) then
        fX2_fact_148 K a0 rs x22.1 v19 x22.2
      else
      if x22.2 = (62 : Int32) then
        fX2_fact_148 K a0 rs x22.1 v19 x22.2
      else
      if x22.2 = (61 : Int32) then
        fX2_fact_148 K a0 rs x22.1 v19 x22.2
      else
      (gI K x22.1 (some a0) 2 2).bind fun v26 =>
      (rcv K x22.1 (some a0) 2).bind fun b27 =>
      (fX2_wrong K x22.1 b27 (1 : Int32) v26).bind fun x28 =>
      (rcv K x28.1 x28.2 3).bind fun q29 =>
      some (x28.1, .inl q29)
    else
    (alc K x11.1 (.inr (16, df16)) 0).bind fun h30 =>
    (fX19_init K h30 x11.1.2.1).bind fun x31 =>
    some (h30, .inr (some x11.1.2.1))
  else
  (gI K x5.1 (some a0) 2 3).bind fun v32 =>
  (rcv K x5.1 (some a0) 2).bind fun b33 =>
  (fX2_opens K x5.1 b33 v32).bind fun x34 =>
  tb x34 (fun q35 => some (x34.1, .inl q35)) fun v36 =>
  (alc K x34.1 (.inr (15, df15)) 1).bind fun h38 =>
  (rcv K h38 (some a0) 2).bind fun b39 =>
  (rs 3 h38 b39).bind fun x40 =>
  tb x40 (fun q41 => some (x40.1, .inl q41)) fun v42 =>
  (fX18_init K x40.1 x34.1.2.1 v42).bind fun x44 =>
  (gI K x44 (some a0) 2 4).bind fun v45 =>
  (pV x44 (some a0) 2 4 (.int (v45 - (1 : Int32)))).bind fun h46 =>
  some (h46, .inr (some x34.1.2.1))
set_option maxHeartbeats 4000000 in
theorem wX2_fact_148 {p : Program} {l : Launch} {e : Env} {s : State} {m : MethodId} {args : Array Value} {below : List Frame} {meth : Method} {c : Code} {A : Nat → Prop} {D : va_G} {ac : Nat → ClassId} {K : KE} {h0 : HS} {a0 : Nat} {fr lo : Nat} (S : CallFix p m c cX2_fact 3 s args lw_all RX2) (hr : meth.sig.returnType = some (.object "FourOnOne$Test")) (hlk : meth.locks = false) (hnm : meth.name = "fact") (hEx : ∀ x ∈ c.exceptionTable.toList, False) (hG : GK A D ac K s) (hRM : RM K s (rmC (fr + 15) (lo + 709) K h0)) {rs : Nat → HS → Nat → Option (HS × (Nat ⊕ Option Nat))} (hfr : 60 ≤ fr ∧ 1000 ≤ lo) (hrc : ROK l A D ac K fr lo rs) {x : HS × (Nat ⊕ Option Nat)} : ∀ (h : HS) (a1 : Option Nat) (a2 : Int32), fX2_fact_148 K a0 rs h a1 a2 = some x → cGo p l e (rmC (fr + 15) (lo + 709) K h0) s m args below meth c A D ac K (vy_MQ below (tQq A D ac K x) (tX A D ac K x) args s (K.2.2.1 - h0.2.1) (K.2.2.2 - h0.2.2) A) 3 148 [(0, va_rf (some a0)), (1, va_rf a1), (2, .int a2)] [] h := by
  obtain ⟨hx, hb, hml, hown, hts⟩ := id S
  intro h a1 a2 z H locs hH hS ls hl
  unfold fX2_fact_148 at z
  refine c_aload_n hx hb dX2_fact_148 rfl (lv_at hl 0 rfl) ?_
  refine lv_dup hx hb dX2_fact_149 rfl ?_
  replace z := ob z
  obtain ⟨v1, zv1, z⟩ := z
  obtain ⟨fsv1, yv1, zv1⟩ := gI_e zv1
  refine c_get S hG hH (ci := 2) (k := 2) rfl in_X2 (Nat.le_of_ble_eq_true rfl) q384 (fun _ y => y) yv1 zv1 dX2_fact_150 ?_
  refine lv_iconst (v := (1 : Int32)) hx hb dX2_fact_153 (by decide) ?_
  refine lv_iadd hx hb dX2_fact_154 ?_
  replace z := ob z
  obtain ⟨h2, zh2, z⟩ := z
  refine c_put S hG hH hS (ci := 2) (k := 2) rfl in_X2 tyX2 tyX2_ok nmX2 (Nat.le_of_ble_eq_true rfl) q384 (fun _ y => y) rfl (ty := .int) rfl rfl rfl zh2 dX2_fact_155 (fun H locs hH hS => ?_)
  replace z := ob z
  obtain ⟨h3, zh3, z⟩ := z
  refine c_new S hG hH hS hRM (ci := 17) rfl in_X20 tyX20 tyX20_ok q1238 q1239 q204 df17_ok zh3 dX2_fact_158 (fun H locs hH hS => ?_)
  refine lv_dup hx hb dX2_fact_161 (ct_r _) ?_
  refine c_aload_n hx hb dX2_fact_162 rfl (lv_at hl 1 rfl) ?_
  refine lv_iload_n hx hb dX2_fact_163 rfl (lv_at hl 2 rfl) ?_
  refine c_aload_n hx hb dX2_fact_164 rfl (lv_at hl 0 rfl) ?_
  replace z := ob z
  obtain ⟨b4, zb4, z⟩ := z
  obtain ⟨yb4, zb4⟩ := rcv_e zb4
  replace z := ob z
  obtain ⟨x5, zx5, z⟩ := z
  refine t_callq hH hS hRM (fun _ _ f1 f2 => vy_runV (b := b4) (As := []) (rest := [.int a2, va_rf a1, va_rf (some h2.2.1), va_rf (some h2.2.1)]) S (metX2_sum hfr hrc zx5) (cwV 0 hts (lw_V q992 q994 qs23 q172 q995) rfl rfl rfl (by decide +kernel) ⟨by dsimp only; omega, by dsimp only; omega⟩) (c_preV hG hH hS (ci := 2) rfl zb4) rfl rfl hl.1 (by rw [yb4]; rfl) (lv_room (by simp [ct_r, ct_i, ct_l])) dX2_fact_165 ⟨f1, f2⟩) (fun q6 H locs ce e8 hH hS g1 g2 g3 => ?_) (fun v7 H locs e8 hH hS => ?_)
  · replace z := tb_l e8 z
    exact t_prop hEx hlk hH hS g1 g2 g3 z
  replace z := tb_r e8 z
  replace z := ob z
  obtain ⟨x9, zx9, z⟩ := z
  refine c_callv hH hS hRM (fun _ _ f1 f2 => va_runI (b := h2.2.1) (As := [va_rf a1, .int a2, va_rf v7]) (rest := [va_rf (some h2.2.1)]) S (metX20_init zx9) (cwI 3 hts (lw_meth q1242) rfl rfl rfl (hts _ q204) (hts _ q1240) (hts _ q1241) rfl (by decide +kernel) ⟨by dsimp only; omega, by dsimp only; omega⟩) (c_pre hG hH hS) rfl rfl hl.1 rfl (lv_room (by simp [ct_r, ct_i, ct_l])) dX2_fact_168 ⟨f1, f2⟩) (fun H locs hH hS => ?_)
  exact t_aret S hr (Or.inl ⟨_, rfl⟩) hlk hH hS z dX2_fact_171
set_option maxHeartbeats 4000000 in
theorem metX2_fact {l : Launch} {A : Nat → Prop} {D : va_G} {ac : Nat → ClassId} {K : KE} {h : HS} {fr lo : Nat} {rs : Nat → HS → Nat → Option (HS × (Nat ⊕ Option Nat))} (hfr : 60 ≤ fr ∧ 1000 ≤ lo) (hrc : ROK l A D ac K fr lo rs) {a0 : Nat} {x : HS × (Nat ⊕ Option Nat)} (z : fX2_fact K h rs a0 = some x) : vy_Met l yX2_fact (ws_ yX2_fact cX2_fact 3 (some (.object "FourOnOne$Test"))) (rmC (fr + 15) (lo + 709) K h) (cP A D ac K h [va_rf (some a0)]) (tQq A D ac K x) (tX A D ac K x) (K.2.2.1 - h.2.1) (K.2.2.2 - h.2.2) A := by
  refine t_entry (by decide) (Nat.le_of_ble_eq_true rfl) ?_
  intro p e s m below meth c S hr hlk hnm hEx hG hRM hH hS ls hl
  replace hl : lv_has ls 3 [(0, va_rf (some a0))] := hl
  replace hnm : meth.name = "fact" := hnm
  replace S : CallFix p m c cX2_fact 3 s _ lw_all RX2 := S
  obtain ⟨hx, hb, hml, hown, hts⟩ := id S
  unfold fX2_fact at z
  refine c_aload_n hx hb dX2_fact_0 rfl (lv_at hl 0 rfl) ?_
  replace z := ob z
  obtain ⟨b1, zb1, z⟩ := z
  obtain ⟨yb1, zb1⟩ := rcv_e zb1
  replace z := ob z
  obtain ⟨x2, zx2, z⟩ := z
  refine c_calli hH hS hRM (fun _ _ f1 f2 => va_runV (b := b1) (As := []) (rest := []) S (metX2_here zx2) (cwV 0 hts (lw_V q579 q581 qs4 q172 q582) rfl rfl rfl (by decide +kernel) ⟨by dsimp only; omega, by dsimp only; omega⟩) (c_preV hG hH hS (ci := 2) rfl zb1) rfl rfl hl.1 (by rw [yb1]; rfl) (lv_room (Nat.le_of_ble_eq_true rfl)) dX2_fact_1 ⟨f1, f2⟩) (fun H locs hH hS => ?_)
  refine lv_bipush (v := (91 : Int32)) hx hb dX2_fact_4 (by decide) ?_
  refine lv_icmp_ne (tgt := 50) hx hb dX2_fact_6 (by decide) (fun c3 => ?_) (fun c3 => ?_)
  rotate_left 1
  · replace z := it c3 z
    refine c_aload_n hx hb dX2_fact_9 rfl (lv_at hl 0 rfl) ?_
    refine c_aload_n hx hb dX2_fact_10 rfl (lv_at hl 0 rfl) ?_
    replace z := ob z
    obtain ⟨v47, zv47, z⟩ := z
    obtain ⟨fsv47, yv47, zv47⟩ := gI_e zv47
    refine c_get S hG hH (ci := 2) (k := 2) rfl in_X2 (Nat.le_of_ble_eq_true rfl) q384 (fun _ y => y) yv47 zv47 dX2_fact_11 ?_
    replace z := ob z
    obtain ⟨b48, zb48, z⟩ := z
    obtain ⟨yb48, zb48⟩ := rcv_e zb48
    replace z := ob z
    obtain ⟨x49, zx49, z⟩ := z
    refine t_callv hH hS hRM (fun _ _ f1 f2 => vy_runV (b := b48) (As := [.int v47]) (rest := []) S (metX2_opens zx49) (cwV 1 hts (lw_V q1049 q1051 qs27 q172 q1052) rfl rfl rfl (by decide +kernel) ⟨by dsimp only; omega, by dsimp only; omega⟩) (c_preV hG hH hS (ci := 2) rfl zb48) rfl rfl hl.1 (by rw [yb48]; rfl) (lv_room (Nat.le_of_ble_eq_true rfl)) dX2_fact_14 ⟨f1, f2⟩) (fun q50 H locs ce e52 hH hS g1 g2 g3 => ?_) (fun v51 H locs e52 hH hS => ?_)
    · replace z := tb_l e52 z
      exact t_prop hEx hlk hH hS g1 g2 g3 z
    replace z := tb_r e52 z
    refine c_aload_n hx hb dX2_fact_17 rfl (lv_at hl 0 rfl) ?_
    refine lv_dup hx hb dX2_fact_18 rfl ?_
    replace z := ob z
    obtain ⟨v53, zv53, z⟩ := z
    obtain ⟨fsv53, yv53, zv53⟩ := gI_e zv53
    refine c_get S hG hH (ci := 2) (k := 2) rfl in_X2 (Nat.le_of_ble_eq_true rfl) q384 (fun _ y => y) yv53 zv53 dX2_fact_19 ?_
    refine lv_iconst (v := (1 : Int32)) hx hb dX2_fact_22 (by decide) ?_
    refine lv_iadd hx hb dX2_fact_23 ?_
    replace z := ob z
    obtain ⟨h54, zh54, z⟩ := z
    refine c_put S hG hH hS (ci := 2) (k := 2) rfl in_X2 tyX2 tyX2_ok nmX2 (Nat.le_of_ble_eq_true rfl) q384 (fun _ y => y) rfl (ty := .int) rfl rfl rfl zh54 dX2_fact_24 (fun H locs hH hS => ?_)
    refine c_aload_n hx hb dX2_fact_27 rfl (lv_at hl 0 rfl) ?_
    replace z := ob z
    obtain ⟨b55, zb55, z⟩ := z
    obtain ⟨yb55, zb55⟩ := rcv_e zb55
    replace z := ob z
    obtain ⟨x56, zx56, z⟩ := z
    refine t_callq hH hS hRM (fun _ _ f1 f2 => vy_runV (b := b55) (As := []) (rest := []) S (ROK2 hrc zx56) (cwV 0 hts (lw_V q1184 q1186 qs31 q172 q1187) rfl rfl rfl (by decide +kernel) ⟨by dsimp only; omega, by dsimp only; omega⟩) (c_preV hG hH hS (ci := 2) rfl zb55) rfl rfl hl.1 (by rw [yb55]; rfl) (lv_room (Nat.le_of_ble_eq_true rfl)) dX2_fact_28 ⟨f1, f2⟩) (fun q57 H locs ce e59 hH hS g1 g2 g3 => ?_) (fun v58 H locs e59 hH hS => ?_)
    · replace z := tb_l e59 z
      exact t_prop hEx hlk hH hS g1 g2 g3 z
    replace z := tb_r e59 z
    refine c_astore_n (lv' := [(1, va_rf v58), (0, va_rf (some a0))]) hx hb dX2_fact_31 rfl hl (by decide) rfl (fun ls hl => ?_)
    refine c_aload_n hx hb dX2_fact_32 rfl (lv_at hl 1 rfl) ?_
    refine lv_bipush (v := (93 : Int32)) hx hb dX2_fact_33 (by decide) ?_
    replace z := ob z
    obtain ⟨b60, zb60, z⟩ := z
    obtain ⟨yb60, zb60⟩ := rcv_e zb60
    replace z := ob z
    obtain ⟨x61, zx61, z⟩ := z
    refine t_callv hH hS hRM (fun _ _ f1 f2 => vy_runV (b := b60) (As := [.int (93 : Int32)]) (rest := []) S (metX2_must zx61) (cwV 1 hts (lw_V q1053 q1055 qs28 q172 q1056) rfl rfl rfl (by decide +kernel) ⟨by dsimp only; omega, by dsimp only; omega⟩) (c_preV hG hH hS (ci := 2) rfl zb60) rfl rfl hl.1 (by rw [yb60]; rfl) (lv_room (Nat.le_of_ble_eq_true rfl)) dX2_fact_35 ⟨f1, f2⟩) (fun q62 H locs ce e64 hH hS g1 g2 g3 => ?_) (fun v63 H locs e64 hH hS => ?_)
    · replace z := tb_l e64 z
      exact t_prop hEx hlk hH hS g1 g2 g3 z
    replace z := tb_r e64 z
    refine c_aload_n hx hb dX2_fact_38 rfl (lv_at hl 1 rfl) ?_
    refine lv_dup hx hb dX2_fact_39 rfl ?_
    replace z := ob z
    obtain ⟨v65, zv65, z⟩ := z
    obtain ⟨fsv65, yv65, zv65⟩ := gI_e zv65
    refine c_get S hG hH (ci := 2) (k := 4) rfl in_X2 (Nat.le_of_ble_eq_true rfl) q386 (fun _ y => y) yv65 zv65 dX2_fact_40 ?_
    refine lv_iconst (v := (1 : Int32)) hx hb dX2_fact_43 (by decide) ?_
    refine lv_isub hx hb dX2_fact_44 ?_
    replace z := ob z
    obtain ⟨h66, zh66, z⟩ := z
    refine c_put S hG hH hS (ci := 2) (k := 4) rfl in_X2 tyX2 tyX2_ok nmX2 (Nat.le_of_ble_eq_true rfl) q386 (fun _ y => y) rfl (ty := .int) rfl rfl rfl zh66 dX2_fact_45 (fun H locs hH hS => ?_)
    refine c_aload_n hx hb dX2_fact_48 rfl (lv_at hl 0 rfl) ?_
    exact t_aret S hr (Or.inl ⟨_, rfl⟩) hlk hH hS z dX2_fact_49
  replace z := ie c3 z
  refine c_aload_n hx hb dX2_fact_50 rfl (lv_at hl 0 rfl) ?_
  refine c_ldcSW S hG (i := 30) (tx := "not") (List.mem_of_getElem? (i := 20) rfl) dX2_fact_51 ?_
  replace z := ob z
  obtain ⟨b4, zb4, z⟩ := z
  obtain ⟨yb4, zb4⟩ := rcv_e zb4
  replace z := ob z
  obtain ⟨x5, zx5, z⟩ := z
  refine t_calli hH hS hRM (fun _ _ f1 f2 => vy_runV (b := b4) (As := [va_rf (K.2.1 30)]) (rest := []) S (metX2_passes zx5) (cwV 1 hts (lw_V q1216 q1218 qs34 q172 q1219) rfl rfl rfl (by decide +kernel) ⟨by dsimp only; omega, by dsimp only; omega⟩) (c_preV hG hH hS (ci := 2) rfl zb4) rfl rfl hl.1 (by rw [yb4]; rfl) (lv_room (Nat.le_of_ble_eq_true rfl)) dX2_fact_54 ⟨f1, f2⟩) (fun q6 H locs ce e8 hH hS g1 g2 g3 => ?_) (fun v7 H locs e8 hH hS => ?_)
  · replace z := tb_l e8 z
    exact t_prop hEx hlk hH hS g1 g2 g3 z
  replace z := tb_r e8 z
  refine lv_if_eq (tgt := 92) hx hb dX2_fact_57 (by decide) (fun c9 => ?_) (fun c9 => ?_)
  rotate_left 1
  · replace z := ie c9 z
    refine c_aload_n hx hb dX2_fact_60 rfl (lv_at hl 0 rfl) ?_
    refine c_aload_n hx hb dX2_fact_61 rfl (lv_at hl 0 rfl) ?_
    replace z := ob z
    obtain ⟨v32, zv32, z⟩ := z
    obtain ⟨fsv32, yv32, zv32⟩ := gI_e zv32
    refine c_get S hG hH (ci := 2) (k := 3) rfl in_X2 (Nat.le_of_ble_eq_true rfl) q385 (fun _ y => y) yv32 zv32 dX2_fact_62 ?_
    replace z := ob z
    obtain ⟨b33, zb33, z⟩ := z
    obtain ⟨yb33, zb33⟩ := rcv_e zb33
    replace z := ob z
    obtain ⟨x34, zx34, z⟩ := z
    refine t_callv hH hS hRM (fun _ _ f1 f2 => vy_runV (b := b33) (As := [.int v32]) (rest := []) S (metX2_opens zx34) (cwV 1 hts (lw_V q1049 q1051 qs27 q172 q1052) rfl rfl rfl (by decide +kernel) ⟨by dsimp only; omega, by dsimp only; omega⟩) (c_preV hG hH hS (ci := 2) rfl zb33) rfl rfl hl.1 (by rw [yb33]; rfl) (lv_room (Nat.le_of_ble_eq_true rfl)) dX2_fact_65 ⟨f1, f2⟩) (fun q35 H locs ce e37 hH hS g1 g2 g3 => ?_) (fun v36 H locs e37 hH hS => ?_)
    · replace z := tb_l e37 z
      exact t_prop hEx hlk hH hS g1 g2 g3 z
    replace z := tb_r e37 z
    replace z := ob z
    obtain ⟨h38, zh38, z⟩ := z
    refine c_new S hG hH hS hRM (ci := 15) rfl in_X18 tyX18 tyX18_ok q1220 q1221 q202 df15_ok zh38 dX2_fact_68 (fun H locs hH hS => ?_)
    refine lv_dup hx hb dX2_fact_71 (ct_r _) ?_
    refine c_aload_n hx hb dX2_fact_72 rfl (lv_at hl 0 rfl) ?_
    replace z := ob z
    obtain ⟨b39, zb39, z⟩ := z
    obtain ⟨yb39, zb39⟩ := rcv_e zb39
    replace z := ob z
    obtain ⟨x40, zx40, z⟩ := z
    refine t_callq hH hS hRM (fun _ _ f1 f2 => vy_runV (b := b39) (As := []) (rest := [va_rf (some x34.1.2.1), va_rf (some x34.1.2.1)]) S (ROK3 hrc zx40) (cwV 0 hts (lw_V q1211 q1213 qs33 q172 q1214) rfl rfl rfl (by decide +kernel) ⟨by dsimp only; omega, by dsimp only; omega⟩) (c_preV hG hH hS (ci := 2) rfl zb39) rfl rfl hl.1 (by rw [yb39]; rfl) (lv_room (by simp [ct_r, ct_i, ct_l])) dX2_fact_73 ⟨f1, f2⟩) (fun q41 H locs ce e43 hH hS g1 g2 g3 => ?_) (fun v42 H locs e43 hH hS => ?_)
    · replace z := tb_l e43 z
      exact t_prop hEx hlk hH hS g1 g2 g3 z
    replace z := tb_r e43 z
    replace z := ob z
    obtain ⟨x44, zx44, z⟩ := z
    refine c_callv hH hS hRM (fun _ _ f1 f2 => va_runI (b := x34.1.2.1) (As := [va_rf v42]) (rest := [va_rf (some x34.1.2.1)]) S (metX18_init zx44) (cwI 1 hts (lw_meth q1224) rfl rfl rfl (hts _ q202) (hts _ q1222) (hts _ q1223) rfl (by decide +kernel) ⟨by dsimp only; omega, by dsimp only; omega⟩) (c_pre hG hH hS) rfl rfl hl.1 rfl (lv_room (by simp [ct_r, ct_i, ct_l])) dX2_fact_76 ⟨f1, f2⟩) (fun H locs hH hS => ?_)
    refine c_astore_n (lv' := [(1, va_rf (some x34.1.2.1)), (0, va_rf (some a0))]) hx hb dX2_fact_79 rfl hl (by decide) rfl (fun ls hl => ?_)
    refine c_aload_n hx hb dX2_fact_80 rfl (lv_at hl 1 rfl) ?_
    refine lv_dup hx hb dX2_fact_81 rfl ?_
    replace z := ob z
    obtain ⟨v45, zv45, z⟩ := z
    obtain ⟨fsv45, yv45, zv45⟩ := gI_e zv45
    refine c_get S hG hH (ci := 2) (k := 4) rfl in_X2 (Nat.le_of_ble_eq_true rfl) q386 (fun _ y => y) yv45 zv45 dX2_fact_82 ?_
    refine lv_iconst (v := (1 : Int32)) hx hb dX2_fact_85 (by decide) ?_
    refine lv_isub hx hb dX2_fact_86 ?_
    replace z := ob z
    obtain ⟨h46, zh46, z⟩ := z
    refine c_put S hG hH hS (ci := 2) (k := 4) rfl in_X2 tyX2 tyX2_ok nmX2 (Nat.le_of_ble_eq_true rfl) q386 (fun _ y => y) rfl (ty := .int) rfl rfl rfl zh46 dX2_fact_87 (fun H locs hH hS => ?_)
    refine c_aload_n hx hb dX2_fact_90 rfl (lv_at hl 0 rfl) ?_
    exact t_aret S hr (Or.inl ⟨_, rfl⟩) hlk hH hS z dX2_fact_91
  replace z := it c9 z
  refine c_aload_n hx hb dX2_fact_92 rfl (lv_at hl 0 rfl) ?_
  refine c_ldcSW S hG (i := 31) (tx := "all") (List.mem_of_getElem? (i := 21) rfl) dX2_fact_93 ?_
  replace z := ob z
  obtain ⟨b10, zb10, z⟩ := z
  obtain ⟨yb10, zb10⟩ := rcv_e zb10
  replace z := ob z
  obtain ⟨x11, zx11, z⟩ := z
  refine t_calli hH hS hRM (fun _ _ f1 f2 => vy_runV (b := b10) (As := [va_rf (K.2.1 31)]) (rest := []) S (metX2_passes zx11) (cwV 1 hts (lw_V q1216 q1218 qs34 q172 q1219) rfl rfl rfl (by decide +kernel) ⟨by dsimp only; omega, by dsimp only; omega⟩) (c_preV hG hH hS (ci := 2) rfl zb10) rfl rfl hl.1 (by rw [yb10]; rfl) (lv_room (Nat.le_of_ble_eq_true rfl)) dX2_fact_96 ⟨f1, f2⟩) (fun q12 H locs ce e14 hH hS g1 g2 g3 => ?_) (fun v13 H locs e14 hH hS => ?_)
  · replace z := tb_l e14 z
    exact t_prop hEx hlk hH hS g1 g2 g3 z
  replace z := tb_r e14 z
  refine lv_if_eq (tgt := 110) hx hb dX2_fact_99 (by decide) (fun c15 => ?_) (fun c15 => ?_)
  rotate_left 1
  · replace z := ie c15 z
    replace z := ob z
    obtain ⟨h30, zh30, z⟩ := z
    refine c_new S hG hH hS hRM (ci := 16) rfl in_X19 tyX19 tyX19_ok q1231 q1232 q203 df16_ok zh30 dX2_fact_102 (fun H locs hH hS => ?_)
    refine lv_dup hx hb dX2_fact_105 (ct_r _) ?_
    replace z := ob z
    obtain ⟨x31, zx31, z⟩ := z
    refine c_callv hH hS hRM (fun _ _ f1 f2 => va_runIN (b := x11.1.2.1) (As := []) (rest := [va_rf (some x11.1.2.1)]) S (metX19_init zx31) ⟨va_cnB 0 hts (lw_meth q1235) rfl rfl rfl (hG.2.1.2.1 _ _ _ _ q1233) (hts _ q203) (by decide +kernel) ⟨by dsimp only; omega, by dsimp only; omega⟩, rfl, hts _ q1234⟩ (c_pre hG hH hS) rfl rfl hl.1 rfl (lv_room (by simp [ct_r, ct_i, ct_l])) dX2_fact_106 ⟨f1, f2⟩) (fun H locs hH hS => ?_)
    exact t_aret S hr (Or.inl ⟨_, rfl⟩) hlk hH hS z dX2_fact_109
  replace z := it c15 z
  refine c_aload_n hx hb dX2_fact_110 rfl (lv_at hl 0 rfl) ?_
  replace z := ob z
  obtain ⟨b16, zb16, z⟩ := z
  obtain ⟨yb16, zb16⟩ := rcv_e zb16
  replace z := ob z
  obtain ⟨x17, zx17, z⟩ := z
  refine t_callq hH hS hRM (fun _ _ f1 f2 => vy_runV (b := b16) (As := []) (rest := []) S (metX2_sum hfr hrc zx17) (cwV 0 hts (lw_V q992 q994 qs23 q172 q995) rfl rfl rfl (by decide +kernel) ⟨by dsimp only; omega, by dsimp only; omega⟩) (c_preV hG hH hS (ci := 2) rfl zb16) rfl rfl hl.1 (by rw [yb16]; rfl) (lv_room (Nat.le_of_ble_eq_true rfl)) dX2_fact_111 ⟨f1, f2⟩) (fun q18 H locs ce e20 hH hS g1 g2 g3 => ?_) (fun v19 H locs e20 hH hS => ?_)
  · replace z := tb_l e20 z
    exact t_prop hEx hlk hH hS g1 g2 g3 z
  replace z := tb_r e20 z
  refine c_astore_n (lv' := [(1, va_rf v19), (0, va_rf (some a0))]) hx hb dX2_fact_114 rfl hl (by decide) rfl (fun ls hl => ?_)
  refine c_aload_n hx hb dX2_fact_115 rfl (lv_at hl 1 rfl) ?_
  replace z := ob z
  obtain ⟨b21, zb21, z⟩ := z
  obtain ⟨yb21, zb21⟩ := rcv_e zb21
  replace z := ob z
  obtain ⟨x22, zx22, z⟩ := z
  refine c_calli hH hS hRM (fun _ _ f1 f2 => va_runV (b := b21) (As := []) (rest := []) S (metX2_here zx22) (cwV 0 hts (lw_V q579 q581 qs4 q172 q582) rfl rfl rfl (by decide +kernel) ⟨by dsimp only; omega, by dsimp only; omega⟩) (c_preV hG hH hS (ci := 2) rfl zb21) rfl rfl hl.1 (by rw [yb21]; rfl) (lv_room (Nat.le_of_ble_eq_true rfl)) dX2_fact_116 ⟨f1, f2⟩) (fun H locs hH hS => ?_)
  refine lv_istore_n (i := 2) (lv' := [(2, .int x22.2), (1, va_rf v19), (0, va_rf (some a0))]) hx hb dX2_fact_119 rfl hl (by decide) (by simp [List.filter, ct_r, ct_i, ct_l]) (fun ls hl => ?_)
  refine lv_iload_n hx hb dX2_fact_120 rfl (lv_at hl 0 rfl) ?_
  refine lv_bipush (v := (60 : Int32)) hx hb dX2_fact_121 (by decide) ?_
  refine lv_icmp_eq (tgt := 148) hx hb dX2_fact_123 (by decide) (fun c23 => ?_) (fun c23 => ?_)
  · replace z := it c23 z
    exact wX2_fact_148 S hr hlk hnm hEx hG hRM hfr hrc x22.1 v19 x22.2 z _ _ hH hS _ (lv_sub hl [2, 1, 0] rfl)
  replace z := ie c23 z
  refine lv_iload_n hx hb dX2_fact_126 rfl (lv_at hl 0 rfl) ?_
  refine lv_bipush (v := (62 : Int32)) hx hb dX2_fact_127 (by decide) ?_
  refine lv_icmp_eq (tgt := 148) hx hb dX2_fact_129 (by decide) (fun c24 => ?_) (fun c24 => ?_)
  · replace z := it c24 z
    exact wX2_fact_148 S hr hlk hnm hEx hG hRM hfr hrc x22.1 v19 x22.2 z _ _ hH hS _ (lv_sub hl [2, 1, 0] rfl)
  replace z := ie c24 z
  refine lv_iload_n hx hb dX2_fact_132 rfl (lv_at hl 0 rfl) ?_
  refine lv_bipush (v := (61 : Int32)) hx hb dX2_fact_133 (by decide) ?_
  refine lv_icmp_eq (tgt := 148) hx hb dX2_fact_135 (by decide) (fun c25 => ?_) (fun c25 => ?_)
  · replace z := it c25 z
    exact wX2_fact_148 S hr hlk hnm hEx hG hRM hfr hrc x22.1 v19 x22.2 z _ _ hH hS _ (lv_sub hl [2, 1, 0] rfl)
  replace z := ie c25 z
  refine c_aload_n hx hb dX2_fact_138 rfl (lv_at hl 2 rfl) ?_
  refine lv_iconst (v := (1 : Int32)) hx hb dX2_fact_139 (by decide) ?_
  refine c_aload_n hx hb dX2_fact_140 rfl (lv_at hl 2 rfl) ?_
  replace z := ob z
  obtain ⟨v26, zv26, z⟩ := z
  obtain ⟨fsv26, yv26, zv26⟩ := gI_e zv26
  refine c_get S hG hH (ci := 2) (k := 2) rfl in_X2 (Nat.le_of_ble_eq_true rfl) q384 (fun _ y => y) yv26 zv26 dX2_fact_141 ?_
  replace z := ob z
  obtain ⟨b27, zb27, z⟩ := z
  obtain ⟨yb27, zb27⟩ := rcv_e zb27
  replace z := ob z
  obtain ⟨x28, zx28, z⟩ := z
  refine c_callq hH hS hRM (fun _ _ f1 f2 => va_runV (b := b27) (As := [.int (1 : Int32), .int v26]) (rest := []) S (metX2_wrong zx28) (cwV 2 hts (lw_V q591 q593 qs7 q172 q594) rfl rfl rfl (by decide +kernel) ⟨by dsimp only; omega, by dsimp only; omega⟩) (c_preV hG hH hS (ci := 2) rfl zb27) rfl rfl hl.1 (by rw [yb27]; rfl) (lv_room (Nat.le_of_ble_eq_true rfl)) dX2_fact_144 ⟨f1, f2⟩) (fun H locs hH hS => ?_)
  replace z := ob z
  obtain ⟨q29, zq29, z⟩ := z
  exact t_throw S hG hEx hlk zq29 hH hS z dX2_fact_147
/-! FourOnOne$Reader.both()LFourOnOne$Test; -/
def fX2_both_23 (K : KE) (a0 : Nat) (rs : Nat → HS → Nat → Option (HS × (Nat ⊕ Option Nat))) : Nat → HS → Option Nat → Option (HS × (Nat ⊕ Option Nat))
  | 0, _, _ => none
  | n + 1, h, a1 =>
    (rcv K h (some a0) 2).bind fun b1 =>
    (fX2_passes K h b1 (K.2.1 29)).bind fun x2 =>
    tb x2 (fun q3 => some (x2.1, .inl q3)) fun v4 =>
    if v4 = 0 then
      some (x2.1, .inr a1)
    else
    (gR K x2.1 a1 14 0).bind fun v7 =>
    (rcv K x2.1 (some a0) 2).bind fun b8 =>
    (fX2_fact K x2.1 rs b8).bind fun x9 =>
    tb x9 (fun q10 => some (x9.1, .inl q10)) fun v11 =>
    (rcv K x9.1 v7 19).bind fun b13 =>
    (fJ2_add K x9.1 b13 v11).bind fun x14 =>
    fX2_both_23 K a0 rs n x14.1 a1
def fX2_both (K : KE) (h : HS) (rs : Nat → HS → Nat → Option (HS × (Nat ⊕ Option Nat))) (a0 : Nat) : Option (HS × (Nat ⊕ Option Nat)) :=
  (alc K h (.inr (14, df14)) 2).bind fun h1 =>
  (fX17_init K h1 h.2.1 (1 : Int32)).bind fun x2 =>
  (gR K x2 (some h.2.1) 14 0).bind fun v3 =>
  (rcv K x2 (some a0) 2).bind fun b4 =>
  (fX2_fact K x2 rs b4).bind fun x5 =>
  tb x5 (fun q6 => some (x5.1, .inl q6)) fun v7 =>
  (rcv K x5.1 v3 19).bind fun b9 =>
  (fJ2_add K x5.1 b9 v7).bind fun x10 =>
  fX2_both_23 K a0 rs FU x10.1 (some h.2.1)
set_option maxHeartbeats 4000000 in
theorem wX2_both_23 {p : Program} {l : Launch} {e : Env} {s : State} {m : MethodId} {args : Array Value} {below : List Frame} {meth : Method} {c : Code} {A : Nat → Prop} {D : va_G} {ac : Nat → ClassId} {K : KE} {h0 : HS} {a0 : Nat} {fr lo : Nat} (S : CallFix p m c cX2_both 2 s args lw_all RX2) (hr : meth.sig.returnType = some (.object "FourOnOne$Test")) (hlk : meth.locks = false) (hnm : meth.name = "both") (hEx : ∀ x ∈ c.exceptionTable.toList, False) (hG : GK A D ac K s) (hRM : RM K s (rmC (fr + 16) (lo + 731) K h0)) {rs : Nat → HS → Nat → Option (HS × (Nat ⊕ Option Nat))} (hfr : 60 ≤ fr ∧ 1000 ≤ lo) (hrc : ROK l A D ac K fr lo rs) {x : HS × (Nat ⊕ Option Nat)} : ∀ (n : Nat) (h : HS) (a1 : Option Nat), fX2_both_23 K a0 rs n h a1 = some x → cGo p l e (rmC (fr + 16) (lo + 731) K h0) s m args below meth c A D ac K (vy_MQ below (tQq A D ac K x) (tX A D ac K x) args s (K.2.2.1 - h0.2.1) (K.2.2.2 - h0.2.2) A) 2 23 [(0, va_rf (some a0)), (1, va_rf a1)] [] h := by
  obtain ⟨hx, hb, hml, hown, hts⟩ := id S
  intro n
  induction n with
  | zero => intro h a1 z; cases z
  | succ n ih =>
    intro h a1 z H locs hH hS ls hl
    rw [fX2_both_23] at z
    refine c_aload_n hx hb dX2_both_23 rfl (lv_at hl 0 rfl) ?_
    refine c_ldcSW S hG (i := 29) (tx := "and") (List.mem_of_getElem? (i := 19) rfl) dX2_both_24 ?_
    replace z := ob z
    obtain ⟨b1, zb1, z⟩ := z
    obtain ⟨yb1, zb1⟩ := rcv_e zb1
    replace z := ob z
    obtain ⟨x2, zx2, z⟩ := z
    refine t_calli hH hS hRM (fun _ _ f1 f2 => vy_runV (b := b1) (As := [va_rf (K.2.1 29)]) (rest := []) S (metX2_passes zx2) (cwV 1 hts (lw_V q1216 q1218 qs34 q172 q1219) rfl rfl rfl (by decide +kernel) ⟨by dsimp only; omega, by dsimp only; omega⟩) (c_preV hG hH hS (ci := 2) rfl zb1) rfl rfl hl.1 (by rw [yb1]; rfl) (lv_room (Nat.le_of_ble_eq_true rfl)) dX2_both_27 ⟨f1, f2⟩) (fun q3 H locs ce e5 hH hS g1 g2 g3 => ?_) (fun v4 H locs e5 hH hS => ?_)
    · replace z := tb_l e5 z
      exact t_prop hEx hlk hH hS g1 g2 g3 z
    replace z := tb_r e5 z
    refine lv_if_eq (tgt := 50) hx hb dX2_both_30 (by decide) (fun c6 => ?_) (fun c6 => ?_)
    · replace z := it c6 z
      refine c_aload_n hx hb dX2_both_50 rfl (lv_at hl 1 rfl) ?_
      exact t_aret S hr (Or.inl ⟨_, rfl⟩) hlk hH hS z dX2_both_51
    replace z := ie c6 z
    refine c_aload_n hx hb dX2_both_33 rfl (lv_at hl 1 rfl) ?_
    replace z := ob z
    obtain ⟨v7, zv7, z⟩ := z
    obtain ⟨fsv7, yv7, zv7⟩ := gR_e zv7
    refine c_getN S hG hH (ci := 14) (k := 0) rfl in_X17 (Nat.le_of_ble_eq_true rfl) q1200 (fun _ y => y) yv7 zv7 dX2_both_34 ?_
    refine c_aload_n hx hb dX2_both_37 rfl (lv_at hl 0 rfl) ?_
    replace z := ob z
    obtain ⟨b8, zb8, z⟩ := z
    obtain ⟨yb8, zb8⟩ := rcv_e zb8
    replace z := ob z
    obtain ⟨x9, zx9, z⟩ := z
    refine t_callq hH hS hRM (fun _ _ f1 f2 => vy_runV (b := b8) (As := []) (rest := [va_rf v7]) S (metX2_fact hfr hrc zx9) (cwV 0 hts (lw_V q1211 q1213 qs33 q172 q1214) rfl rfl rfl (by decide +kernel) ⟨by dsimp only; omega, by dsimp only; omega⟩) (c_preV hG hH hS (ci := 2) rfl zb8) rfl rfl hl.1 (by rw [yb8]; rfl) (lv_room (by simp [ct_r, ct_i, ct_l])) dX2_both_38 ⟨f1, f2⟩) (fun q10 H locs ce e12 hH hS g1 g2 g3 => ?_) (fun v11 H locs e12 hH hS => ?_)
    · replace z := tb_l e12 z
      exact t_prop hEx hlk hH hS g1 g2 g3 z
    replace z := tb_r e12 z
    replace z := ob z
    obtain ⟨b13, zb13, z⟩ := z
    obtain ⟨yb13, zb13⟩ := rcv_e zb13
    replace z := ob z
    obtain ⟨x14, zx14, z⟩ := z
    refine c_callFi hH hS hRM (fun _ _ f1 f2 => va_runF (b := b13) (As := [va_rf v11]) (rest := []) (hG.1.1 19 _ rfl).2 S (metJ2_add zx14) (va_cwF 1 hts (lw_app (lw_l4 q829 q832 q834 q171) (lw_meth q836)) rfl rfl rfl hG.2.2.2.2.1.2.2 (by decide +kernel) ⟨by dsimp only; omega, by dsimp only; omega⟩) (c_preV hG hH hS (ci := 19) rfl zb13) rfl rfl hl.1 (by rw [yb13]; rfl) (lv_room (Nat.le_of_ble_eq_true rfl)) dX2_both_41 ⟨f1, f2⟩) (fun H locs hH hS => ?_)
    refine lv_pop hx hb dX2_both_46 rfl ?_
    refine lv_goto (tgt := 23) hx hb dX2_both_47 (by decide) ?_
    exact ih x14.1 a1 z _ _ hH hS _ (lv_sub hl [0, 1] rfl)
set_option maxHeartbeats 4000000 in
theorem metX2_both {l : Launch} {A : Nat → Prop} {D : va_G} {ac : Nat → ClassId} {K : KE} {h : HS} {fr lo : Nat} {rs : Nat → HS → Nat → Option (HS × (Nat ⊕ Option Nat))} (hfr : 60 ≤ fr ∧ 1000 ≤ lo) (hrc : ROK l A D ac K fr lo rs) {a0 : Nat} {x : HS × (Nat ⊕ Option Nat)} (z : fX2_both K h rs a0 = some x) : vy_Met l yX2_both (ws_ yX2_both cX2_both 2 (some (.object "FourOnOne$Test"))) (rmC (fr + 16) (lo + 731) K h) (cP A D ac K h [va_rf (some a0)]) (tQq A D ac K x) (tX A D ac K x) (K.2.2.1 - h.2.1) (K.2.2.2 - h.2.2) A := by
  refine t_entry (by decide) (Nat.le_of_ble_eq_true rfl) ?_
  intro p e s m below meth c S hr hlk hnm hEx hG hRM hH hS ls hl
  replace hl : lv_has ls 2 [(0, va_rf (some a0))] := hl
  replace hnm : meth.name = "both" := hnm
  replace S : CallFix p m c cX2_both 2 s _ lw_all RX2 := S
  obtain ⟨hx, hb, hml, hown, hts⟩ := id S
  unfold fX2_both at z
  replace z := ob z
  obtain ⟨h1, zh1, z⟩ := z
  refine c_new S hG hH hS hRM (ci := 14) rfl in_X17 tyX17 tyX17_ok q1188 q1189 q201 df14_ok zh1 dX2_both_0 (fun H locs hH hS => ?_)
  refine lv_dup hx hb dX2_both_3 (ct_r _) ?_
  refine lv_iconst (v := (1 : Int32)) hx hb dX2_both_4 (by decide) ?_
  replace z := ob z
  obtain ⟨x2, zx2, z⟩ := z
  refine c_callv hH hS hRM (fun _ _ f1 f2 => va_runI (b := h.2.1) (As := [.int (1 : Int32)]) (rest := [va_rf (some h.2.1)]) S (metX17_init zx2) (cwI 1 hts (lw_meth q1192) rfl rfl rfl (hts _ q201) (hts _ q1190) (hts _ q1191) rfl (by decide +kernel) ⟨by dsimp only; omega, by dsimp only; omega⟩) (c_pre hG hH hS) rfl rfl hl.1 rfl (lv_room (by simp [ct_r, ct_i, ct_l])) dX2_both_5 ⟨f1, f2⟩) (fun H locs hH hS => ?_)
  refine c_astore_n (lv' := [(1, va_rf (some h.2.1)), (0, va_rf (some a0))]) hx hb dX2_both_8 rfl hl (by decide) rfl (fun ls hl => ?_)
  refine c_aload_n hx hb dX2_both_9 rfl (lv_at hl 0 rfl) ?_
  replace z := ob z
  obtain ⟨v3, zv3, z⟩ := z
  obtain ⟨fsv3, yv3, zv3⟩ := gR_e zv3
  refine c_getN S hG hH (ci := 14) (k := 0) rfl in_X17 (Nat.le_of_ble_eq_true rfl) q1200 (fun _ y => y) yv3 zv3 dX2_both_10 ?_
  refine c_aload_n hx hb dX2_both_13 rfl (lv_at hl 1 rfl) ?_
  replace z := ob z
  obtain ⟨b4, zb4, z⟩ := z
  obtain ⟨yb4, zb4⟩ := rcv_e zb4
  replace z := ob z
  obtain ⟨x5, zx5, z⟩ := z
  refine t_callq hH hS hRM (fun _ _ f1 f2 => vy_runV (b := b4) (As := []) (rest := [va_rf v3]) S (metX2_fact hfr hrc zx5) (cwV 0 hts (lw_V q1211 q1213 qs33 q172 q1214) rfl rfl rfl (by decide +kernel) ⟨by dsimp only; omega, by dsimp only; omega⟩) (c_preV hG hH hS (ci := 2) rfl zb4) rfl rfl hl.1 (by rw [yb4]; rfl) (lv_room (by simp [ct_r, ct_i, ct_l])) dX2_both_14 ⟨f1, f2⟩) (fun q6 H locs ce e8 hH hS g1 g2 g3 => ?_) (fun v7 H locs e8 hH hS => ?_)
  · replace z := tb_l e8 z
    exact t_prop hEx hlk hH hS g1 g2 g3 z
  replace z := tb_r e8 z
  replace z := ob z
  obtain ⟨b9, zb9, z⟩ := z
  obtain ⟨yb9, zb9⟩ := rcv_e zb9
  replace z := ob z
  obtain ⟨x10, zx10, z⟩ := z
  refine c_callFi hH hS hRM (fun _ _ f1 f2 => va_runF (b := b9) (As := [va_rf v7]) (rest := []) (hG.1.1 19 _ rfl).2 S (metJ2_add zx10) (va_cwF 1 hts (lw_app (lw_l4 q829 q832 q834 q171) (lw_meth q836)) rfl rfl rfl hG.2.2.2.2.1.2.2 (by decide +kernel) ⟨by dsimp only; omega, by dsimp only; omega⟩) (c_preV hG hH hS (ci := 19) rfl zb9) rfl rfl hl.1 (by rw [yb9]; rfl) (lv_room (Nat.le_of_ble_eq_true rfl)) dX2_both_17 ⟨f1, f2⟩) (fun H locs hH hS => ?_)
  refine lv_pop hx hb dX2_both_22 rfl ?_
  exact wX2_both_23 S hr hlk hnm hEx hG hRM hfr hrc FU x10.1 (some h.2.1) z _ _ hH hS _ (lv_sub hl [1, 0] rfl)
/-! FourOnOne$Reader.test()LFourOnOne$Test; -/
def fX2_test_23 (K : KE) (a0 : Nat) (rs : Nat → HS → Nat → Option (HS × (Nat ⊕ Option Nat))) : Nat → HS → Option Nat → Option (HS × (Nat ⊕ Option Nat))
  | 0, _, _ => none
  | n + 1, h, a1 =>
    (rcv K h (some a0) 2).bind fun b1 =>
    (fX2_passes K h b1 (K.2.1 28)).bind fun x2 =>
    tb x2 (fun q3 => some (x2.1, .inl q3)) fun v4 =>
    if v4 = 0 then
      some (x2.1, .inr a1)
    else
    (gR K x2.1 a1 14 0).bind fun v7 =>
    (rcv K x2.1 (some a0) 2).bind fun b8 =>
    (fX2_both K x2.1 rs b8).bind fun x9 =>
    tb x9 (fun q10 => some (x9.1, .inl q10)) fun v11 =>
    (rcv K x9.1 v7 19).bind fun b13 =>
    (fJ2_add K x9.1 b13 v11).bind fun x14 =>
    fX2_test_23 K a0 rs n x14.1 a1
def fX2_test (K : KE) (h : HS) (rs : Nat → HS → Nat → Option (HS × (Nat ⊕ Option Nat))) (a0 : Nat) : Option (HS × (Nat ⊕ Option Nat)) :=
  (alc K h (.inr (14, df14)) 2).bind fun h1 =>
  (fX17_init K h1 h.2.1 (0 : Int32)).bind fun x2 =>
  (gR K x2 (some h.2.1) 14 0).bind fun v3 =>
  (rcv K x2 (some a0) 2).bind fun b4 =>
  (fX2_both K x2 rs b4).bind fun x5 =>
  tb x5 (fun q6 => some (x5.1, .inl q6)) fun v7 =>
  (rcv K x5.1 v3 19).bind fun b9 =>
  (fJ2_add K x5.1 b9 v7).bind fun x10 =>
  fX2_test_23 K a0 rs FU x10.1 (some h.2.1)
set_option maxHeartbeats 4000000 in
theorem wX2_test_23 {p : Program} {l : Launch} {e : Env} {s : State} {m : MethodId} {args : Array Value} {below : List Frame} {meth : Method} {c : Code} {A : Nat → Prop} {D : va_G} {ac : Nat → ClassId} {K : KE} {h0 : HS} {a0 : Nat} {fr lo : Nat} (S : CallFix p m c cX2_test 2 s args lw_all RX2) (hr : meth.sig.returnType = some (.object "FourOnOne$Test")) (hlk : meth.locks = false) (hnm : meth.name = "test") (hEx : ∀ x ∈ c.exceptionTable.toList, False) (hG : GK A D ac K s) (hRM : RM K s (rmC (fr + 17) (lo + 752) K h0)) {rs : Nat → HS → Nat → Option (HS × (Nat ⊕ Option Nat))} (hfr : 60 ≤ fr ∧ 1000 ≤ lo) (hrc : ROK l A D ac K fr lo rs) {x : HS × (Nat ⊕ Option Nat)} : ∀ (n : Nat) (h : HS) (a1 : Option Nat), fX2_test_23 K a0 rs n h a1 = some x → cGo p l e (rmC (fr + 17) (lo + 752) K h0) s m args below meth c A D ac K (vy_MQ below (tQq A D ac K x) (tX A D ac K x) args s (K.2.2.1 - h0.2.1) (K.2.2.2 - h0.2.2) A) 2 23 [(0, va_rf (some a0)), (1, va_rf a1)] [] h := by
  obtain ⟨hx, hb, hml, hown, hts⟩ := id S
  intro n
  induction n with
  | zero => intro h a1 z; cases z
  | succ n ih =>
    intro h a1 z H locs hH hS ls hl
    rw [fX2_test_23] at z
    refine c_aload_n hx hb dX2_test_23 rfl (lv_at hl 0 rfl) ?_
    refine c_ldcSW S hG (i := 28) (tx := "or") (List.mem_of_getElem? (i := 18) rfl) dX2_test_24 ?_
    replace z := ob z
    obtain ⟨b1, zb1, z⟩ := z
    obtain ⟨yb1, zb1⟩ := rcv_e zb1
    replace z := ob z
    obtain ⟨x2, zx2, z⟩ := z
    refine t_calli hH hS hRM (fun _ _ f1 f2 => vy_runV (b := b1) (As := [va_rf (K.2.1 28)]) (rest := []) S (metX2_passes zx2) (cwV 1 hts (lw_V q1216 q1218 qs34 q172 q1219) rfl rfl rfl (by decide +kernel) ⟨by dsimp only; omega, by dsimp only; omega⟩) (c_preV hG hH hS (ci := 2) rfl zb1) rfl rfl hl.1 (by rw [yb1]; rfl) (lv_room (Nat.le_of_ble_eq_true rfl)) dX2_test_27 ⟨f1, f2⟩) (fun q3 H locs ce e5 hH hS g1 g2 g3 => ?_) (fun v4 H locs e5 hH hS => ?_)
    · replace z := tb_l e5 z
      exact t_prop hEx hlk hH hS g1 g2 g3 z
    replace z := tb_r e5 z
    refine lv_if_eq (tgt := 50) hx hb dX2_test_30 (by decide) (fun c6 => ?_) (fun c6 => ?_)
    · replace z := it c6 z
      refine c_aload_n hx hb dX2_test_50 rfl (lv_at hl 1 rfl) ?_
      exact t_aret S hr (Or.inl ⟨_, rfl⟩) hlk hH hS z dX2_test_51
    replace z := ie c6 z
    refine c_aload_n hx hb dX2_test_33 rfl (lv_at hl 1 rfl) ?_
    replace z := ob z
    obtain ⟨v7, zv7, z⟩ := z
    obtain ⟨fsv7, yv7, zv7⟩ := gR_e zv7
    refine c_getN S hG hH (ci := 14) (k := 0) rfl in_X17 (Nat.le_of_ble_eq_true rfl) q1200 (fun _ y => y) yv7 zv7 dX2_test_34 ?_
    refine c_aload_n hx hb dX2_test_37 rfl (lv_at hl 0 rfl) ?_
    replace z := ob z
    obtain ⟨b8, zb8, z⟩ := z
    obtain ⟨yb8, zb8⟩ := rcv_e zb8
    replace z := ob z
    obtain ⟨x9, zx9, z⟩ := z
    refine t_callq hH hS hRM (fun _ _ f1 f2 => vy_runV (b := b8) (As := []) (rest := [va_rf v7]) S (metX2_both hfr hrc zx9) (cwV 0 hts (lw_V q1207 q1209 qs32 q172 q1210) rfl rfl rfl (by decide +kernel) ⟨by dsimp only; omega, by dsimp only; omega⟩) (c_preV hG hH hS (ci := 2) rfl zb8) rfl rfl hl.1 (by rw [yb8]; rfl) (lv_room (by simp [ct_r, ct_i, ct_l])) dX2_test_38 ⟨f1, f2⟩) (fun q10 H locs ce e12 hH hS g1 g2 g3 => ?_) (fun v11 H locs e12 hH hS => ?_)
    · replace z := tb_l e12 z
      exact t_prop hEx hlk hH hS g1 g2 g3 z
    replace z := tb_r e12 z
    replace z := ob z
    obtain ⟨b13, zb13, z⟩ := z
    obtain ⟨yb13, zb13⟩ := rcv_e zb13
    replace z := ob z
    obtain ⟨x14, zx14, z⟩ := z
    refine c_callFi hH hS hRM (fun _ _ f1 f2 => va_runF (b := b13) (As := [va_rf v11]) (rest := []) (hG.1.1 19 _ rfl).2 S (metJ2_add zx14) (va_cwF 1 hts (lw_app (lw_l4 q829 q832 q834 q171) (lw_meth q836)) rfl rfl rfl hG.2.2.2.2.1.2.2 (by decide +kernel) ⟨by dsimp only; omega, by dsimp only; omega⟩) (c_preV hG hH hS (ci := 19) rfl zb13) rfl rfl hl.1 (by rw [yb13]; rfl) (lv_room (Nat.le_of_ble_eq_true rfl)) dX2_test_41 ⟨f1, f2⟩) (fun H locs hH hS => ?_)
    refine lv_pop hx hb dX2_test_46 rfl ?_
    refine lv_goto (tgt := 23) hx hb dX2_test_47 (by decide) ?_
    exact ih x14.1 a1 z _ _ hH hS _ (lv_sub hl [0, 1] rfl)
set_option maxHeartbeats 4000000 in
theorem metX2_test {l : Launch} {A : Nat → Prop} {D : va_G} {ac : Nat → ClassId} {K : KE} {h : HS} {fr lo : Nat} {rs : Nat → HS → Nat → Option (HS × (Nat ⊕ Option Nat))} (hfr : 60 ≤ fr ∧ 1000 ≤ lo) (hrc : ROK l A D ac K fr lo rs) {a0 : Nat} {x : HS × (Nat ⊕ Option Nat)} (z : fX2_test K h rs a0 = some x) : vy_Met l yX2_test (ws_ yX2_test cX2_test 2 (some (.object "FourOnOne$Test"))) (rmC (fr + 17) (lo + 752) K h) (cP A D ac K h [va_rf (some a0)]) (tQq A D ac K x) (tX A D ac K x) (K.2.2.1 - h.2.1) (K.2.2.2 - h.2.2) A := by
  refine t_entry (by decide) (Nat.le_of_ble_eq_true rfl) ?_
  intro p e s m below meth c S hr hlk hnm hEx hG hRM hH hS ls hl
  replace hl : lv_has ls 2 [(0, va_rf (some a0))] := hl
  replace hnm : meth.name = "test" := hnm
  replace S : CallFix p m c cX2_test 2 s _ lw_all RX2 := S
  obtain ⟨hx, hb, hml, hown, hts⟩ := id S
  unfold fX2_test at z
  replace z := ob z
  obtain ⟨h1, zh1, z⟩ := z
  refine c_new S hG hH hS hRM (ci := 14) rfl in_X17 tyX17 tyX17_ok q1188 q1189 q201 df14_ok zh1 dX2_test_0 (fun H locs hH hS => ?_)
  refine lv_dup hx hb dX2_test_3 (ct_r _) ?_
  refine lv_iconst (v := (0 : Int32)) hx hb dX2_test_4 (by decide) ?_
  replace z := ob z
  obtain ⟨x2, zx2, z⟩ := z
  refine c_callv hH hS hRM (fun _ _ f1 f2 => va_runI (b := h.2.1) (As := [.int (0 : Int32)]) (rest := [va_rf (some h.2.1)]) S (metX17_init zx2) (cwI 1 hts (lw_meth q1192) rfl rfl rfl (hts _ q201) (hts _ q1190) (hts _ q1191) rfl (by decide +kernel) ⟨by dsimp only; omega, by dsimp only; omega⟩) (c_pre hG hH hS) rfl rfl hl.1 rfl (lv_room (by simp [ct_r, ct_i, ct_l])) dX2_test_5 ⟨f1, f2⟩) (fun H locs hH hS => ?_)
  refine c_astore_n (lv' := [(1, va_rf (some h.2.1)), (0, va_rf (some a0))]) hx hb dX2_test_8 rfl hl (by decide) rfl (fun ls hl => ?_)
  refine c_aload_n hx hb dX2_test_9 rfl (lv_at hl 0 rfl) ?_
  replace z := ob z
  obtain ⟨v3, zv3, z⟩ := z
  obtain ⟨fsv3, yv3, zv3⟩ := gR_e zv3
  refine c_getN S hG hH (ci := 14) (k := 0) rfl in_X17 (Nat.le_of_ble_eq_true rfl) q1200 (fun _ y => y) yv3 zv3 dX2_test_10 ?_
  refine c_aload_n hx hb dX2_test_13 rfl (lv_at hl 1 rfl) ?_
  replace z := ob z
  obtain ⟨b4, zb4, z⟩ := z
  obtain ⟨yb4, zb4⟩ := rcv_e zb4
  replace z := ob z
  obtain ⟨x5, zx5, z⟩ := z
  refine t_callq hH hS hRM (fun _ _ f1 f2 => vy_runV (b := b4) (As := []) (rest := [va_rf v3]) S (metX2_both hfr hrc zx5) (cwV 0 hts (lw_V q1207 q1209 qs32 q172 q1210) rfl rfl rfl (by decide +kernel) ⟨by dsimp only; omega, by dsimp only; omega⟩) (c_preV hG hH hS (ci := 2) rfl zb4) rfl rfl hl.1 (by rw [yb4]; rfl) (lv_room (by simp [ct_r, ct_i, ct_l])) dX2_test_14 ⟨f1, f2⟩) (fun q6 H locs ce e8 hH hS g1 g2 g3 => ?_) (fun v7 H locs e8 hH hS => ?_)
  · replace z := tb_l e8 z
    exact t_prop hEx hlk hH hS g1 g2 g3 z
  replace z := tb_r e8 z
  replace z := ob z
  obtain ⟨b9, zb9, z⟩ := z
  obtain ⟨yb9, zb9⟩ := rcv_e zb9
  replace z := ob z
  obtain ⟨x10, zx10, z⟩ := z
  refine c_callFi hH hS hRM (fun _ _ f1 f2 => va_runF (b := b9) (As := [va_rf v7]) (rest := []) (hG.1.1 19 _ rfl).2 S (metJ2_add zx10) (va_cwF 1 hts (lw_app (lw_l4 q829 q832 q834 q171) (lw_meth q836)) rfl rfl rfl hG.2.2.2.2.1.2.2 (by decide +kernel) ⟨by dsimp only; omega, by dsimp only; omega⟩) (c_preV hG hH hS (ci := 19) rfl zb9) rfl rfl hl.1 (by rw [yb9]; rfl) (lv_room (Nat.le_of_ble_eq_true rfl)) dX2_test_17 ⟨f1, f2⟩) (fun H locs hH hS => ?_)
  refine lv_pop hx hb dX2_test_22 rfl ?_
  exact wX2_test_23 S hr hlk hnm hEx hG hRM hfr hrc FU x10.1 (some h.2.1) z _ _ hH hS _ (lv_sub hl [1, 0] rfl)

set_option maxRecDepth 100000
/-! refused(II)I -/
abbrev rmX6_refused : Room := { frames := 9, cells := 0, slots := 0, locals := 184 }
def fX6_refused (σ : MS) (a1 : Int32) (a2 : Int32) : Option (MS × Int32) :=
  (fX6_isPerson σ a1).bind fun x1 =>
  if x1 = 0 then
    some (σ, (-1 : Int32))
  else
  (fX6_isAhead σ a2 (0 : Int32) (72 : Int32)).bind fun x3 =>
  if x3 = 0 then
    some (σ, (-1 : Int32))
  else
  (fX6_putsAside σ).bind fun x5 =>
  (fX6_hoursGo x5 a2).bind fun x6 =>
  (fX6_takesBack x6.1).bind fun x7 =>
  (aI x7 63 a1).bind fun v8 =>
  some (x7, v8)
set_option maxHeartbeats 4000000 in
theorem metX6_refused {l : Launch} {G : mG} {b : Nat} {σ : MS} {a1 : Int32} {a2 : Int32} {x : MS × Int32} (h : fX6_refused σ a1 a2 = some x) : Met l yX6_refused (ws_ yX6_refused cX6_refused 3 (some .int)) rmX6_refused (mP G b σ [.ref b, .int a1, .int a2]) (mQi G b x) 0 0 (mB b) := by
  refine m_entry (by decide) rfl (Nat.le_of_ble_eq_true rfl) ?_
  intro p e s m below meth c S hr hlk hK hM hS ls hl
  replace hl : lv_has ls 3 [(0, .ref b), (1, .int a1), (2, .int a2)] := hl
  obtain ⟨hx, hb, hml, hown, hts⟩ := id S
  unfold fX6_refused at h
  refine lv_aload_n hx hb dX6_refused_0 rfl (lv_at hl 0 rfl) ?_
  refine lv_iload_n hx hb dX6_refused_1 rfl (lv_at hl 1 rfl) ?_
  replace h := ob h
  obtain ⟨x1, hx1, h⟩ := h
  refine kX6_isPerson S hK hM hS hx1 ⟨Nat.le_of_ble_eq_true rfl, Nat.le_of_ble_eq_true rfl⟩ hl.1 (Nat.le_of_ble_eq_true rfl) dX6_refused_2 (fun H locs hM hS => ?_)
  refine lv_if_eq (tgt := 19) hx hb dX6_refused_5 (by decide) (fun c2 => ?_) (fun c2 => ?_)
  · replace h := it c2 h
    refine lv_iconst (v := (-1 : Int32)) hx hb dX6_refused_19 (by decide) ?_
    exact m_iret S hr hlk rfl hM hS h dX6_refused_20
  replace h := ie c2 h
  refine lv_aload_n hx hb dX6_refused_8 rfl (lv_at hl 0 rfl) ?_
  refine lv_iload_n hx hb dX6_refused_9 rfl (lv_at hl 2 rfl) ?_
  refine lv_iconst (v := (0 : Int32)) hx hb dX6_refused_10 (by decide) ?_
  refine lv_bipush (v := (72 : Int32)) hx hb dX6_refused_11 (by decide) ?_
  replace h := ob h
  obtain ⟨x3, hx3, h⟩ := h
  refine kX6_isAhead S hK hM hS hx3 ⟨Nat.le_of_ble_eq_true rfl, Nat.le_of_ble_eq_true rfl⟩ hl.1 (Nat.le_of_ble_eq_true rfl) dX6_refused_13 (fun H locs hM hS => ?_)
  refine lv_if_ne (tgt := 21) hx hb dX6_refused_16 (by decide) (fun c4 => ?_) (fun c4 => ?_)
  rotate_left 1
  · replace h := it c4 h
    refine lv_iconst (v := (-1 : Int32)) hx hb dX6_refused_19 (by decide) ?_
    exact m_iret S hr hlk rfl hM hS h dX6_refused_20
  replace h := ie c4 h
  refine lv_aload_n hx hb dX6_refused_21 rfl (lv_at hl 0 rfl) ?_
  replace h := ob h
  obtain ⟨x5, hx5, h⟩ := h
  refine kX6_putsAside S hK hM hS hx5 ⟨Nat.le_of_ble_eq_true rfl, Nat.le_of_ble_eq_true rfl⟩ hl.1 (Nat.le_of_ble_eq_true rfl) dX6_refused_22 (fun H locs hM hS => ?_)
  refine lv_aload_n hx hb dX6_refused_25 rfl (lv_at hl 0 rfl) ?_
  refine lv_iload_n hx hb dX6_refused_26 rfl (lv_at hl 2 rfl) ?_
  replace h := ob h
  obtain ⟨x6, hx6, h⟩ := h
  refine kX6_hoursGo S hK hM hS hx6 ⟨Nat.le_of_ble_eq_true rfl, Nat.le_of_ble_eq_true rfl⟩ hl.1 (Nat.le_of_ble_eq_true rfl) dX6_refused_27 (fun H locs hM hS => ?_)
  refine lv_pop hx hb dX6_refused_30 rfl ?_
  refine lv_aload_n hx hb dX6_refused_31 rfl (lv_at hl 0 rfl) ?_
  replace h := ob h
  obtain ⟨x7, hx7, h⟩ := h
  refine kX6_takesBack S hK hM hS hx7 ⟨Nat.le_of_ble_eq_true rfl, Nat.le_of_ble_eq_true rfl⟩ hl.1 (Nat.le_of_ble_eq_true rfl) dX6_refused_32 (fun H locs hM hS => ?_)
  refine lv_aload_n hx hb dX6_refused_35 rfl (lv_at hl 0 rfl) ?_
  refine m_get S hK hM 63 (Nat.le_of_ble_eq_true rfl) q1795 (v := .ref (ma b 63)) rfl dX6_refused_36 ?_
  refine lv_iload_n hx hb dX6_refused_39 rfl (lv_at hl 1 rfl) ?_
  replace h := ob h
  obtain ⟨v8, hv8, h⟩ := h
  refine m_iald S hK hM 63 rfl hv8 dX6_refused_40 ?_
  exact m_iret S hr hlk rfl hM hS h dX6_refused_41
/-! pleasureBy(III)J -/
abbrev rmX6_pleasureBy : Room := { frames := 9, cells := 0, slots := 0, locals := 184 }
def fX6_pleasureBy (σ : MS) (a1 : Int32) (a2 : Int32) (a3 : Int32) : Option (MS × Int64) :=
  (fX6_pressAll σ a1).bind fun x1 =>
  (fX6_hoursGo x1 a3).bind fun x2 =>
  (fX6_triesAnew x2.1).bind fun x3 =>
  (aL x3 62 a2).bind fun v4 =>
  some (x3, v4)
set_option maxHeartbeats 4000000 in
theorem metX6_pleasureBy {l : Launch} {G : mG} {b : Nat} {σ : MS} {a1 : Int32} {a2 : Int32} {a3 : Int32} {x : MS × Int64} (h : fX6_pleasureBy σ a1 a2 a3 = some x) : Met l yX6_pleasureBy (ws_ yX6_pleasureBy cX6_pleasureBy 4 (some .long)) rmX6_pleasureBy (mP G b σ [.ref b, .int a1, .int a2, .int a3]) (mQl G b x) 0 0 (mB b) := by
  refine m_entry (by decide) rfl (Nat.le_of_ble_eq_true rfl) ?_
  intro p e s m below meth c S hr hlk hK hM hS ls hl
  replace hl : lv_has ls 4 [(0, .ref b), (1, .int a1), (2, .int a2), (3, .int a3)] := hl
  obtain ⟨hx, hb, hml, hown, hts⟩ := id S
  unfold fX6_pleasureBy at h
  refine lv_aload_n hx hb dX6_pleasureBy_0 rfl (lv_at hl 0 rfl) ?_
  refine lv_iload_n hx hb dX6_pleasureBy_1 rfl (lv_at hl 1 rfl) ?_
  replace h := ob h
  obtain ⟨x1, hx1, h⟩ := h
  refine kX6_pressAll S hK hM hS hx1 ⟨Nat.le_of_ble_eq_true rfl, Nat.le_of_ble_eq_true rfl⟩ hl.1 (Nat.le_of_ble_eq_true rfl) dX6_pleasureBy_2 (fun H locs hM hS => ?_)
  refine lv_aload_n hx hb dX6_pleasureBy_5 rfl (lv_at hl 0 rfl) ?_
  refine lv_iload_n hx hb dX6_pleasureBy_6 rfl (lv_at hl 3 rfl) ?_
  replace h := ob h
  obtain ⟨x2, hx2, h⟩ := h
  refine kX6_hoursGo S hK hM hS hx2 ⟨Nat.le_of_ble_eq_true rfl, Nat.le_of_ble_eq_true rfl⟩ hl.1 (Nat.le_of_ble_eq_true rfl) dX6_pleasureBy_7 (fun H locs hM hS => ?_)
  refine lv_pop hx hb dX6_pleasureBy_10 rfl ?_
  refine lv_aload_n hx hb dX6_pleasureBy_11 rfl (lv_at hl 0 rfl) ?_
  replace h := ob h
  obtain ⟨x3, hx3, h⟩ := h
  refine kX6_triesAnew S hK hM hS hx3 ⟨Nat.le_of_ble_eq_true rfl, Nat.le_of_ble_eq_true rfl⟩ hl.1 (Nat.le_of_ble_eq_true rfl) dX6_pleasureBy_12 (fun H locs hM hS => ?_)
  refine lv_aload_n hx hb dX6_pleasureBy_15 rfl (lv_at hl 0 rfl) ?_
  refine m_get S hK hM 62 (Nat.le_of_ble_eq_true rfl) q1794 (v := .ref (ma b 62)) rfl dX6_pleasureBy_16 ?_
  refine lv_iload_n hx hb dX6_pleasureBy_19 rfl (lv_at hl 2 rfl) ?_
  replace h := ob h
  obtain ⟨v4, hv4, h⟩ := h
  refine m_lald S hK hM 62 rfl hv4 dX6_pleasureBy_20 ?_
  exact m_lret S hr hlk hM hS h dX6_pleasureBy_21
theorem kX6_pleasureBy {p : Program} {l : Launch} {e : Env} {R : Room} {s : State} {m : MethodId} {args : Array Value} {below : List Frame} {meth : Method} {c : Code} {H H0 : Heap} {locs : List Loc} {Q : State → Prop} {cc : ByteArray} {nL pc : Nat} {ls : Array Slot} {rest : List Value} {G : mG} {b : Nat} {σ : MS} {a1 : Int32} {a2 : Int32} {a3 : Int32} {x : MS × Int64} (S : CallFix p m c cc nL s args lw_all RX6) (hK : mK G s) (hM : MW G b σ H) (hS : va_S (mB b) H0 H locs) (hf : fX6_pleasureBy σ a1 a2 a3 = some x) (hR : rmX6_pleasureBy.frames + 1 ≤ R.frames ∧ 8 + (4 + 11) + rmX6_pleasureBy.locals ≤ R.locals) (hsize : ls.size = nL) (hr : (rest.map fun v => v.category).sum ≤ 8) (hdg : decode cc pc = .ok (.invokevirtual 545, 3)) (kk : ∀ (H1 : Heap) (locs1 : List Loc), MW G b x.1 H1 → va_S (mB b) H0 H1 locs1 → W p l e R s m args below meth c H1 locs1 0 0 Q (F0 m (pc + 3) ls (.long x.2 :: rest))) : W p l e R s m args below meth c H locs 0 0 Q (F0 m pc ls (.int a3 :: .int a2 :: .int a1 :: .ref b :: rest)) :=
  m_cVl (As := [.int a1, .int a2, .int a3]) S hK hM hS (metX6_pleasureBy hf) (cwV 3 S.2.2.2.2 (lw_V q2459 q2461 qs145 q179 q2462) rfl rfl rfl (by decide +kernel) hR) ⟨Nat.zero_le _, Nat.zero_le _⟩ rfl hsize rfl hr hdg kk
/-! pressing(II)J -/
abbrev rmX6_pressing : Room := { frames := 10, cells := 0, slots := 0, locals := 207 }
def fX6_pressing_19 (σ : MS) : Option (MS × Int64) :=
  some (σ, (-1000000000000000 : Int64))
def fX6_pressing (σ : MS) (a1 : Int32) (a2 : Int32) : Option (MS × Int64) :=
  (fX6_isPerson σ a1).bind fun x1 =>
  if x1 = 0 then
    fX6_pressing_19 σ
  else
  (fX6_isAhead σ a2 (0 : Int32) (72 : Int32)).bind fun x3 =>
  if x3 = 0 then
    fX6_pressing_19 σ
  else
  (fX6_pressers σ).bind fun x5 =>
  (fX6_putsAside σ).bind fun x6 =>
  (fX6_pleasureBy x6 (x5 ||| ((1 : Int32) <<< (a1 &&& 31))) a1 a2).bind fun x7 =>
  (fX6_pleasureBy x7.1 (x5 &&& (((1 : Int32) <<< (a1 &&& 31)) ^^^ (-1 : Int32))) a1 a2).bind fun x8 =>
  (fX6_takesBack x8.1).bind fun x9 =>
  some (x9, (x7.2 - x8.2))
set_option maxHeartbeats 4000000 in
theorem wX6_pressing_19 {p : Program} {l : Launch} {e : Env} {s : State} {m : MethodId} {args : Array Value} {below : List Frame} {meth : Method} {c : Code} {G : mG} {b : Nat} (S : CallFix p m c cX6_pressing 8 s args lw_all RX6) (hr : meth.sig.returnType = some .long) (hlk : meth.locks = false) (hK : mK G s) {x : MS × Int64} : ∀ (σ : MS), fX6_pressing_19 σ = some x → mGo p l e rmX6_pressing s m args below meth c G b (MQ below (mQl G b x) args s 0 0 (mB b)) 8 19 [(0, .ref b)] [] σ := by
  obtain ⟨hx, hb, hml, hown, hts⟩ := id S
  intro σ h H locs hM hS ls hl
  unfold fX6_pressing_19 at h
  refine lv_ldc2 hx hb hown (hts _ q2402) dX6_pressing_19 ?_
  exact m_lret S hr hlk hM hS h dX6_pressing_22
set_option maxHeartbeats 4000000 in
theorem metX6_pressing {l : Launch} {G : mG} {b : Nat} {σ : MS} {a1 : Int32} {a2 : Int32} {x : MS × Int64} (h : fX6_pressing σ a1 a2 = some x) : Met l yX6_pressing (ws_ yX6_pressing cX6_pressing 8 (some .long)) rmX6_pressing (mP G b σ [.ref b, .int a1, .int a2]) (mQl G b x) 0 0 (mB b) := by
  refine m_entry (by decide) rfl (Nat.le_of_ble_eq_true rfl) ?_
  intro p e s m below meth c S hr hlk hK hM hS ls hl
  replace hl : lv_has ls 8 [(0, .ref b), (1, .int a1), (2, .int a2)] := hl
  obtain ⟨hx, hb, hml, hown, hts⟩ := id S
  unfold fX6_pressing at h
  refine lv_aload_n hx hb dX6_pressing_0 rfl (lv_at hl 0 rfl) ?_
  refine lv_iload_n hx hb dX6_pressing_1 rfl (lv_at hl 1 rfl) ?_
  replace h := ob h
  obtain ⟨x1, hx1, h⟩ := h
  refine kX6_isPerson S hK hM hS hx1 ⟨Nat.le_of_ble_eq_true rfl, Nat.le_of_ble_eq_true rfl⟩ hl.1 (Nat.le_of_ble_eq_true rfl) dX6_pressing_2 (fun H locs hM hS => ?_)
  refine lv_if_eq (tgt := 19) hx hb dX6_pressing_5 (by decide) (fun c2 => ?_) (fun c2 => ?_)
  · replace h := it c2 h
    exact wX6_pressing_19 S hr hlk hK σ h _ _ hM hS _ (lv_sub hl [0] rfl)
  replace h := ie c2 h
  refine lv_aload_n hx hb dX6_pressing_8 rfl (lv_at hl 0 rfl) ?_
  refine lv_iload_n hx hb dX6_pressing_9 rfl (lv_at hl 2 rfl) ?_
  refine lv_iconst (v := (0 : Int32)) hx hb dX6_pressing_10 (by decide) ?_
  refine lv_bipush (v := (72 : Int32)) hx hb dX6_pressing_11 (by decide) ?_
  replace h := ob h
  obtain ⟨x3, hx3, h⟩ := h
  refine kX6_isAhead S hK hM hS hx3 ⟨Nat.le_of_ble_eq_true rfl, Nat.le_of_ble_eq_true rfl⟩ hl.1 (Nat.le_of_ble_eq_true rfl) dX6_pressing_13 (fun H locs hM hS => ?_)
  refine lv_if_ne (tgt := 23) hx hb dX6_pressing_16 (by decide) (fun c4 => ?_) (fun c4 => ?_)
  rotate_left 1
  · replace h := it c4 h
    exact wX6_pressing_19 S hr hlk hK σ h _ _ hM hS _ (lv_sub hl [0] rfl)
  replace h := ie c4 h
  refine lv_aload_n hx hb dX6_pressing_23 rfl (lv_at hl 0 rfl) ?_
  replace h := ob h
  obtain ⟨x5, hx5, h⟩ := h
  refine kX6_pressers S hK hM hS hx5 ⟨Nat.le_of_ble_eq_true rfl, Nat.le_of_ble_eq_true rfl⟩ hl.1 (Nat.le_of_ble_eq_true rfl) dX6_pressing_24 (fun H locs hM hS => ?_)
  refine lv_istore_n (lv' := [(3, .int x5), (0, .ref b), (1, .int a1), (2, .int a2)]) hx hb dX6_pressing_27 rfl hl (by decide) rfl (fun ls hl => ?_)
  refine lv_aload_n hx hb dX6_pressing_28 rfl (lv_at hl 1 rfl) ?_
  replace h := ob h
  obtain ⟨x6, hx6, h⟩ := h
  refine kX6_putsAside S hK hM hS hx6 ⟨Nat.le_of_ble_eq_true rfl, Nat.le_of_ble_eq_true rfl⟩ hl.1 (Nat.le_of_ble_eq_true rfl) dX6_pressing_29 (fun H locs hM hS => ?_)
  refine lv_aload_n hx hb dX6_pressing_32 rfl (lv_at hl 1 rfl) ?_
  refine lv_iload_n hx hb dX6_pressing_33 rfl (lv_at hl 0 rfl) ?_
  refine lv_iconst (v := (1 : Int32)) hx hb dX6_pressing_34 (by decide) ?_
  refine lv_iload_n hx hb dX6_pressing_35 rfl (lv_at hl 2 rfl) ?_
  refine lv_ishl hx hb dX6_pressing_36 ?_
  refine lv_ior hx hb dX6_pressing_37 ?_
  refine lv_iload_n hx hb dX6_pressing_38 rfl (lv_at hl 2 rfl) ?_
  refine lv_iload_n hx hb dX6_pressing_39 rfl (lv_at hl 3 rfl) ?_
  replace h := ob h
  obtain ⟨x7, hx7, h⟩ := h
  refine kX6_pleasureBy S hK hM hS hx7 ⟨Nat.le_of_ble_eq_true rfl, Nat.le_of_ble_eq_true rfl⟩ hl.1 (Nat.le_of_ble_eq_true rfl) dX6_pressing_40 (fun H locs hM hS => ?_)
  refine lv_lstore (lv' := [(4, .long x7.2), (3, .int x5), (0, .ref b), (1, .int a1), (2, .int a2)]) hx hb dX6_pressing_43 hl (by decide) rfl (fun ls hl => ?_)
  refine lv_aload_n hx hb dX6_pressing_45 rfl (lv_at hl 2 rfl) ?_
  refine lv_iload_n hx hb dX6_pressing_46 rfl (lv_at hl 1 rfl) ?_
  refine lv_iconst (v := (1 : Int32)) hx hb dX6_pressing_47 (by decide) ?_
  refine lv_iload_n hx hb dX6_pressing_48 rfl (lv_at hl 3 rfl) ?_
  refine lv_ishl hx hb dX6_pressing_49 ?_
  refine lv_iconst (v := (-1 : Int32)) hx hb dX6_pressing_50 (by decide) ?_
  refine lv_ixor hx hb dX6_pressing_51 ?_
  refine lv_iand hx hb dX6_pressing_52 ?_
  refine lv_iload_n hx hb dX6_pressing_53 rfl (lv_at hl 3 rfl) ?_
  refine lv_iload_n hx hb dX6_pressing_54 rfl (lv_at hl 4 rfl) ?_
  replace h := ob h
  obtain ⟨x8, hx8, h⟩ := h
  refine kX6_pleasureBy S hK hM hS hx8 ⟨Nat.le_of_ble_eq_true rfl, Nat.le_of_ble_eq_true rfl⟩ hl.1 (Nat.le_of_ble_eq_true rfl) dX6_pressing_55 (fun H locs hM hS => ?_)
  refine lv_lstore (lv' := [(6, .long x8.2), (4, .long x7.2), (3, .int x5), (0, .ref b), (1, .int a1), (2, .int a2)]) hx hb dX6_pressing_58 hl (by decide) rfl (fun ls hl => ?_)
  refine lv_aload_n hx hb dX6_pressing_60 rfl (lv_at hl 3 rfl) ?_
  replace h := ob h
  obtain ⟨x9, hx9, h⟩ := h
  refine kX6_takesBack S hK hM hS hx9 ⟨Nat.le_of_ble_eq_true rfl, Nat.le_of_ble_eq_true rfl⟩ hl.1 (Nat.le_of_ble_eq_true rfl) dX6_pressing_61 (fun H locs hM hS => ?_)
  refine lv_lload hx hb dX6_pressing_64 (lv_at hl 1 rfl) ?_
  refine lv_lload hx hb dX6_pressing_66 (lv_at hl 0 rfl) ?_
  refine lv_lsub hx hb dX6_pressing_68 ?_
  exact m_lret S hr hlk hM hS h dX6_pressing_69
/-! isRest(I)Z -/
abbrev rmX6_isRest : Room := { frames := 2, cells := 0, slots := 0, locals := 20 }
def fX6_isRest_2 (σ : MS) : Nat → Int32 → Int32 → Option (Int32)
  | 0, _, _ => none
  | n + 1, a1, a2 =>
    (fX6_personMany σ).bind fun x1 =>
    if x1 ≤ a2 then
      some (1 : Int32)
    else
    (aL σ 64 (((5 : Int32) * (a1 ^^^ ((1 : Int32) <<< (a2 &&& 31)))) + a2)).bind fun v3 =>
    (aL σ 64 (((5 : Int32) * a1) + a2)).bind fun v4 =>
    if v3 ≤ v4 then
      fX6_isRest_2 σ n a1 (a2 + (1 : Int32))
    else
    some (0 : Int32)
def fX6_isRest (σ : MS) (a1 : Int32) : Option (Int32) :=
  fX6_isRest_2 σ FU a1 (0 : Int32)
set_option maxHeartbeats 4000000 in
theorem wX6_isRest_2 {p : Program} {l : Launch} {e : Env} {s : State} {m : MethodId} {args : Array Value} {below : List Frame} {meth : Method} {c : Code} {G : mG} {b : Nat} {σ : MS} (S : CallFix p m c cX6_isRest 3 s args lw_all RX6) (hr : meth.sig.returnType = some .boolean) (hlk : meth.locks = false) (hK : mK G s) {x : Int32} : ∀ (n : Nat) (a1 : Int32) (a2 : Int32), fX6_isRest_2 σ n a1 a2 = some x → mGo p l e rmX6_isRest s m args below meth c G b (MQ below (mQi G b (σ, x)) args s 0 0 (mB b)) 3 2 [(0, .ref b), (1, .int a1), (2, .int a2)] [] σ := by
  obtain ⟨hx, hb, hml, hown, hts⟩ := id S
  intro n
  induction n with
  | zero => intro a1 a2 h; cases h
  | succ n ih =>
    intro a1 a2 h H locs hM hS ls hl
    rw [fX6_isRest_2] at h
    refine lv_iload_n hx hb dX6_isRest_2 rfl (lv_at hl 2 rfl) ?_
    refine lv_aload_n hx hb dX6_isRest_3 rfl (lv_at hl 0 rfl) ?_
    replace h := ob h
    obtain ⟨x1, hx1, h⟩ := h
    refine kX6_personMany S hK hM hS hx1 ⟨Nat.le_of_ble_eq_true rfl, Nat.le_of_ble_eq_true rfl⟩ hl.1 (Nat.le_of_ble_eq_true rfl) dX6_isRest_4 (fun H locs hM hS => ?_)
    refine lv_icmp_ge (tgt := 46) hx hb dX6_isRest_7 (by decide) (fun c2 => ?_) (fun c2 => ?_)
    · replace h := it c2 h
      refine lv_iconst (v := (1 : Int32)) hx hb dX6_isRest_46 (by decide) ?_
      exact m_iret' S hr hlk rfl hM hS h dX6_isRest_47
    replace h := ie c2 h
    refine lv_aload_n hx hb dX6_isRest_10 rfl (lv_at hl 0 rfl) ?_
    refine m_get S hK hM 64 (Nat.le_of_ble_eq_true rfl) q1796 (v := .ref (ma b 64)) rfl dX6_isRest_11 ?_
    refine lv_iconst (v := (5 : Int32)) hx hb dX6_isRest_14 (by decide) ?_
    refine lv_iload_n hx hb dX6_isRest_15 rfl (lv_at hl 1 rfl) ?_
    refine lv_iconst (v := (1 : Int32)) hx hb dX6_isRest_16 (by decide) ?_
    refine lv_iload_n hx hb dX6_isRest_17 rfl (lv_at hl 2 rfl) ?_
    refine lv_ishl hx hb dX6_isRest_18 ?_
    refine lv_ixor hx hb dX6_isRest_19 ?_
    refine lv_imul hx hb dX6_isRest_20 ?_
    refine lv_iload_n hx hb dX6_isRest_21 rfl (lv_at hl 2 rfl) ?_
    refine lv_iadd hx hb dX6_isRest_22 ?_
    replace h := ob h
    obtain ⟨v3, hv3, h⟩ := h
    refine m_lald S hK hM 64 rfl hv3 dX6_isRest_23 ?_
    refine lv_aload_n hx hb dX6_isRest_24 rfl (lv_at hl 0 rfl) ?_
    refine m_get S hK hM 64 (Nat.le_of_ble_eq_true rfl) q1796 (v := .ref (ma b 64)) rfl dX6_isRest_25 ?_
    refine lv_iconst (v := (5 : Int32)) hx hb dX6_isRest_28 (by decide) ?_
    refine lv_iload_n hx hb dX6_isRest_29 rfl (lv_at hl 1 rfl) ?_
    refine lv_imul hx hb dX6_isRest_30 ?_
    refine lv_iload_n hx hb dX6_isRest_31 rfl (lv_at hl 2 rfl) ?_
    refine lv_iadd hx hb dX6_isRest_32 ?_
    replace h := ob h
    obtain ⟨v4, hv4, h⟩ := h
    refine m_lald S hK hM 64 rfl hv4 dX6_isRest_33 ?_
    refine m_lcmp S dX6_isRest_34 ?_
    refine lv_if_le (tgt := 40) hx hb dX6_isRest_35 (by decide) (fun c5 => ?_) (fun c5 => ?_)
    rotate_left 1
    · replace h := ie (fun q => c5 ((lg_cmp_le _ _).mpr q)) h
      refine lv_iconst (v := (0 : Int32)) hx hb dX6_isRest_38 (by decide) ?_
      exact m_iret' S hr hlk rfl hM hS h dX6_isRest_39
    replace h := it ((lg_cmp_le _ _).mp c5) h
    refine lv_iinc (v := (a2 + (1 : Int32))) (lv' := [(2, .int (a2 + (1 : Int32))), (0, .ref b), (1, .int a1)]) hx hb dX6_isRest_40 hl (k := 2) rfl rfl (by decide) rfl (fun ls hl => ?_)
    refine lv_goto (tgt := 2) hx hb dX6_isRest_43 (by decide) ?_
    exact ih a1 (a2 + (1 : Int32)) h _ _ hM hS _ (lv_sub hl [1, 2, 0] rfl)
set_option maxHeartbeats 4000000 in
theorem metX6_isRest {l : Launch} {G : mG} {b : Nat} {σ : MS} {a1 : Int32} {x : Int32} (h : fX6_isRest σ a1 = some x) : Met l yX6_isRest (ws_ yX6_isRest cX6_isRest 3 (some .boolean)) rmX6_isRest (mP G b σ [.ref b, .int a1]) (mQi G b (σ, x)) 0 0 (mB b) := by
  refine m_entry (by decide) rfl (Nat.le_of_ble_eq_true rfl) ?_
  intro p e s m below meth c S hr hlk hK hM hS ls hl
  replace hl : lv_has ls 3 [(0, .ref b), (1, .int a1)] := hl
  obtain ⟨hx, hb, hml, hown, hts⟩ := id S
  unfold fX6_isRest at h
  refine lv_iconst (v := (0 : Int32)) hx hb dX6_isRest_0 (by decide) ?_
  refine lv_istore_n (lv' := [(2, .int (0 : Int32)), (0, .ref b), (1, .int a1)]) hx hb dX6_isRest_1 rfl hl (by decide) rfl (fun ls hl => ?_)
  exact wX6_isRest_2 S hr hlk hK FU a1 (0 : Int32) h _ _ hM hS _ (lv_sub hl [1, 2, 0] rfl)
theorem kX6_isRest {p : Program} {l : Launch} {e : Env} {R : Room} {s : State} {m : MethodId} {args : Array Value} {below : List Frame} {meth : Method} {c : Code} {H H0 : Heap} {locs : List Loc} {Q : State → Prop} {cc : ByteArray} {nL pc : Nat} {ls : Array Slot} {rest : List Value} {G : mG} {b : Nat} {σ : MS} {a1 : Int32} {x : Int32} (S : CallFix p m c cc nL s args lw_all RX6) (hK : mK G s) (hM : MW G b σ H) (hS : va_S (mB b) H0 H locs) (hf : fX6_isRest σ a1 = some x) (hR : rmX6_isRest.frames + 1 ≤ R.frames ∧ 8 + (3 + 11) + rmX6_isRest.locals ≤ R.locals) (hsize : ls.size = nL) (hr : (rest.map fun v => v.category).sum ≤ 8) (hdg : decode cc pc = .ok (.invokevirtual 549, 3)) (kk : ∀ (H1 : Heap) (locs1 : List Loc), MW G b σ H1 → va_S (mB b) H0 H1 locs1 → W p l e R s m args below meth c H1 locs1 0 0 Q (F0 m (pc + 3) ls (.int x :: rest))) : W p l e R s m args below meth c H locs 0 0 Q (F0 m pc ls (.int a1 :: .ref b :: rest)) :=
  m_cVi (As := [.int a1]) S hK hM hS (metX6_isRest hf) (cwV 1 S.2.2.2.2 (lw_V q2467 q2469 qs146 q179 q2470) rfl rfl rfl (by decide +kernel) hR) ⟨Nat.zero_le _, Nat.zero_le _⟩ rfl hsize rfl hr hdg kk
/-! rest(I)I -/
abbrev rmX6_rest : Room := { frames := 9, cells := 0, slots := 0, locals := 184 }
def fX6_rest_49 (k26 : MS → Int32 → Int32 → Int32 → Option (MS × Int32)) : Nat → MS → Int32 → Int32 → Int32 → Int32 → Option (MS × Int32)
  | 0, _, _, _, _, _ => none
  | n + 1, σ, a1, a2, a3, a4 =>
    (fX6_personMany σ).bind fun x1 =>
    if x1 ≤ a4 then
      k26 σ a1 a2 (a3 + (1 : Int32))
    else
    (aL σ 62 a4).bind fun v3 =>
    (tL σ 64 (((5 : Int32) * a3) + a4) v3).bind fun σ4 =>
    fX6_rest_49 k26 n σ4 a1 a2 a3 (a4 + (1 : Int32))
def fX6_rest_132 (k97 : MS → Int32 → Int32 → Int32 → Option (MS × Int32)) (σ : MS) (a2 : Int32) (a3 : Int32) (a4 : Int32) : Option (MS × Int32) :=
  k97 σ a2 a3 (a4 + (1 : Int32))
def fX6_rest_120 (k97 : MS → Int32 → Int32 → Int32 → Option (MS × Int32)) (σ : MS) (a2 : Int32) (a3 : Int32) (a4 : Int32) : Option (MS × Int32) :=
  (fX6_isRest σ a4).bind fun x1 =>
  if x1 = 0 then
    fX6_rest_132 k97 σ a2 a3 a4
  else
  fX6_rest_132 k97 σ a2 a4 a4
def fX6_rest_97 : Nat → MS → Int32 → Int32 → Int32 → Option (MS × Int32)
  | 0, _, _, _, _ => none
  | n + 1, σ, a2, a3, a4 =>
    if a2 ≤ a4 then
      some (σ, a3)
    else
    if a3 = (-1 : Int32) then
      fX6_rest_120 (fun σ' b2 b3 b4 => fX6_rest_97 n σ' b2 b3 b4) σ a2 a3 a4
    else
    (fX6_bits σ a4).bind fun x3 =>
    (fX6_bits σ a3).bind fun x4 =>
    if x4 ≤ x3 then
      fX6_rest_132 (fun σ' b2 b3 b4 => fX6_rest_97 n σ' b2 b3 b4) σ a2 a3 a4
    else
    fX6_rest_120 (fun σ' b2 b3 b4 => fX6_rest_97 n σ' b2 b3 b4) σ a2 a3 a4
def fX6_rest_26 : Nat → MS → Int32 → Int32 → Int32 → Option (MS × Int32)
  | 0, _, _, _, _ => none
  | n + 1, σ, a1, a2, a3 =>
    if a2 ≤ a3 then
      (fX6_takesBack σ).bind fun x2 =>
      fX6_rest_97 FU x2 a2 (-1 : Int32) (0 : Int32)
    else
    (fX6_pressAll σ a3).bind fun x3 =>
    (fX6_hoursGo x3 a1).bind fun x4 =>
    (fX6_triesAnew x4.1).bind fun x5 =>
    fX6_rest_49 (fun σ' b1 b2 b3 => fX6_rest_26 n σ' b1 b2 b3) FU x5 a1 a2 a3 (0 : Int32)
def fX6_rest (σ : MS) (a1 : Int32) : Option (MS × Int32) :=
  (fX6_isAhead σ a1 (0 : Int32) (48 : Int32)).bind fun x1 =>
  if x1 = 0 then
    some (σ, (-1 : Int32))
  else
  (fX6_personMany σ).bind fun x3 =>
  (fX6_putsAside σ).bind fun x4 =>
  fX6_rest_26 FU x4 a1 ((1 : Int32) <<< (x3 &&& 31)) (0 : Int32)
set_option maxHeartbeats 4000000 in
theorem wX6_rest_49 {p : Program} {l : Launch} {e : Env} {s : State} {m : MethodId} {args : Array Value} {below : List Frame} {meth : Method} {c : Code} {G : mG} {b : Nat} (S : CallFix p m c cX6_rest 5 s args lw_all RX6) (hr : meth.sig.returnType = some .int) (hlk : meth.locks = false) (hK : mK G s) {x : MS × Int32} {k26 : MS → Int32 → Int32 → Int32 → Option (MS × Int32)} (hk26 : ∀ σ a1 a2 a3, k26 σ a1 a2 a3 = some x → mGo p l e rmX6_rest s m args below meth c G b (MQ below (mQi G b x) args s 0 0 (mB b)) 5 26 [(0, .ref b), (1, .int a1), (2, .int a2), (3, .int a3)] [] σ) : ∀ (n : Nat) (σ : MS) (a1 : Int32) (a2 : Int32) (a3 : Int32) (a4 : Int32), fX6_rest_49 k26 n σ a1 a2 a3 a4 = some x → mGo p l e rmX6_rest s m args below meth c G b (MQ below (mQi G b x) args s 0 0 (mB b)) 5 49 [(0, .ref b), (1, .int a1), (2, .int a2), (3, .int a3), (4, .int a4)] [] σ := by
  obtain ⟨hx, hb, hml, hown, hts⟩ := id S
  intro n
  induction n with
  | zero => intro σ a1 a2 a3 a4 h; cases h
  | succ n ih =>
    intro σ a1 a2 a3 a4 h H locs hM hS ls hl
    rw [fX6_rest_49] at h
    refine lv_iload hx hb dX6_rest_49 (lv_at hl 4 rfl) ?_
    refine lv_aload_n hx hb dX6_rest_51 rfl (lv_at hl 0 rfl) ?_
    replace h := ob h
    obtain ⟨x1, hx1, h⟩ := h
    refine kX6_personMany S hK hM hS hx1 ⟨Nat.le_of_ble_eq_true rfl, Nat.le_of_ble_eq_true rfl⟩ hl.1 (Nat.le_of_ble_eq_true rfl) dX6_rest_52 (fun H locs hM hS => ?_)
    refine lv_icmp_ge (tgt := 82) hx hb dX6_rest_55 (by decide) (fun c2 => ?_) (fun c2 => ?_)
    · replace h := it c2 h
      refine lv_iinc (v := (a3 + (1 : Int32))) (lv' := [(3, .int (a3 + (1 : Int32))), (0, .ref b), (1, .int a1), (2, .int a2), (4, .int a4)]) hx hb dX6_rest_82 hl (k := 3) rfl rfl (by decide) rfl (fun ls hl => ?_)
      refine lv_goto (tgt := 26) hx hb dX6_rest_85 (by decide) ?_
      exact hk26 σ a1 a2 (a3 + (1 : Int32)) h _ _ hM hS _ (lv_sub hl [1, 2, 3, 0] rfl)
    replace h := ie c2 h
    refine lv_aload_n hx hb dX6_rest_58 rfl (lv_at hl 0 rfl) ?_
    refine m_get S hK hM 64 (Nat.le_of_ble_eq_true rfl) q1796 (v := .ref (ma b 64)) rfl dX6_rest_59 ?_
    refine lv_iconst (v := (5 : Int32)) hx hb dX6_rest_62 (by decide) ?_
    refine lv_iload_n hx hb dX6_rest_63 rfl (lv_at hl 3 rfl) ?_
    refine lv_imul hx hb dX6_rest_64 ?_
    refine lv_iload hx hb dX6_rest_65 (lv_at hl 4 rfl) ?_
    refine lv_iadd hx hb dX6_rest_67 ?_
    refine lv_aload_n hx hb dX6_rest_68 rfl (lv_at hl 0 rfl) ?_
    refine m_get S hK hM 62 (Nat.le_of_ble_eq_true rfl) q1794 (v := .ref (ma b 62)) rfl dX6_rest_69 ?_
    refine lv_iload hx hb dX6_rest_72 (lv_at hl 4 rfl) ?_
    replace h := ob h
    obtain ⟨v3, hv3, h⟩ := h
    refine m_lald S hK hM 62 rfl hv3 dX6_rest_74 ?_
    replace h := ob h
    obtain ⟨σ4, hσ4, h⟩ := h
    refine m_last S hK hM hS 64 rfl hσ4 dX6_rest_75 (fun H locs hM hS => ?_)
    refine lv_iinc (v := (a4 + (1 : Int32))) (lv' := [(4, .int (a4 + (1 : Int32))), (0, .ref b), (1, .int a1), (2, .int a2), (3, .int a3)]) hx hb dX6_rest_76 hl (k := 4) rfl rfl (by decide) rfl (fun ls hl => ?_)
    refine lv_goto (tgt := 49) hx hb dX6_rest_79 (by decide) ?_
    exact ih σ4 a1 a2 a3 (a4 + (1 : Int32)) h _ _ hM hS _ (lv_sub hl [1, 2, 3, 4, 0] rfl)
set_option maxHeartbeats 4000000 in
theorem wX6_rest_132 {p : Program} {l : Launch} {e : Env} {s : State} {m : MethodId} {args : Array Value} {below : List Frame} {meth : Method} {c : Code} {G : mG} {b : Nat} (S : CallFix p m c cX6_rest 5 s args lw_all RX6) (hr : meth.sig.returnType = some .int) (hlk : meth.locks = false) (hK : mK G s) {x : MS × Int32} {k97 : MS → Int32 → Int32 → Int32 → Option (MS × Int32)} (hk97 : ∀ σ a2 a3 a4, k97 σ a2 a3 a4 = some x → mGo p l e rmX6_rest s m args below meth c G b (MQ below (mQi G b x) args s 0 0 (mB b)) 5 97 [(0, .ref b), (2, .int a2), (3, .int a3), (4, .int a4)] [] σ) : ∀ (σ : MS) (a2 : Int32) (a3 : Int32) (a4 : Int32), fX6_rest_132 k97 σ a2 a3 a4 = some x → mGo p l e rmX6_rest s m args below meth c G b (MQ below (mQi G b x) args s 0 0 (mB b)) 5 132 [(0, .ref b), (2, .int a2), (3, .int a3), (4, .int a4)] [] σ := by
  obtain ⟨hx, hb, hml, hown, hts⟩ := id S
  intro σ a2 a3 a4 h H locs hM hS ls hl
  unfold fX6_rest_132 at h
  refine lv_iinc (v := (a4 + (1 : Int32))) (lv' := [(4, .int (a4 + (1 : Int32))), (0, .ref b), (2, .int a2), (3, .int a3)]) hx hb dX6_rest_132 hl (k := 3) rfl rfl (by decide) rfl (fun ls hl => ?_)
  refine lv_goto (tgt := 97) hx hb dX6_rest_135 (by decide) ?_
  exact hk97 σ a2 a3 (a4 + (1 : Int32)) h _ _ hM hS _ (lv_sub hl [1, 2, 3, 0] rfl)
set_option maxHeartbeats 4000000 in
theorem wX6_rest_120 {p : Program} {l : Launch} {e : Env} {s : State} {m : MethodId} {args : Array Value} {below : List Frame} {meth : Method} {c : Code} {G : mG} {b : Nat} (S : CallFix p m c cX6_rest 5 s args lw_all RX6) (hr : meth.sig.returnType = some .int) (hlk : meth.locks = false) (hK : mK G s) {x : MS × Int32} {k97 : MS → Int32 → Int32 → Int32 → Option (MS × Int32)} (hk97 : ∀ σ a2 a3 a4, k97 σ a2 a3 a4 = some x → mGo p l e rmX6_rest s m args below meth c G b (MQ below (mQi G b x) args s 0 0 (mB b)) 5 97 [(0, .ref b), (2, .int a2), (3, .int a3), (4, .int a4)] [] σ) : ∀ (σ : MS) (a2 : Int32) (a3 : Int32) (a4 : Int32), fX6_rest_120 k97 σ a2 a3 a4 = some x → mGo p l e rmX6_rest s m args below meth c G b (MQ below (mQi G b x) args s 0 0 (mB b)) 5 120 [(0, .ref b), (2, .int a2), (3, .int a3), (4, .int a4)] [] σ := by
  obtain ⟨hx, hb, hml, hown, hts⟩ := id S
  intro σ a2 a3 a4 h H locs hM hS ls hl
  unfold fX6_rest_120 at h
  refine lv_aload_n hx hb dX6_rest_120 rfl (lv_at hl 0 rfl) ?_
  refine lv_iload hx hb dX6_rest_121 (lv_at hl 3 rfl) ?_
  replace h := ob h
  obtain ⟨x1, hx1, h⟩ := h
  refine kX6_isRest S hK hM hS hx1 ⟨Nat.le_of_ble_eq_true rfl, Nat.le_of_ble_eq_true rfl⟩ hl.1 (Nat.le_of_ble_eq_true rfl) dX6_rest_123 (fun H locs hM hS => ?_)
  refine lv_if_eq (tgt := 132) hx hb dX6_rest_126 (by decide) (fun c2 => ?_) (fun c2 => ?_)
  · replace h := it c2 h
    exact wX6_rest_132 S hr hlk hK hk97 σ a2 a3 a4 h _ _ hM hS _ (lv_sub hl [0, 1, 2, 3] rfl)
  replace h := ie c2 h
  refine lv_iload hx hb dX6_rest_129 (lv_at hl 3 rfl) ?_
  refine lv_istore_n (lv' := [(3, .int a4), (0, .ref b), (2, .int a2), (4, .int a4)]) hx hb dX6_rest_131 rfl hl (by decide) rfl (fun ls hl => ?_)
  exact wX6_rest_132 S hr hlk hK hk97 σ a2 a4 a4 h _ _ hM hS _ (lv_sub hl [1, 2, 0, 3] rfl)
set_option maxHeartbeats 4000000 in
theorem wX6_rest_97 {p : Program} {l : Launch} {e : Env} {s : State} {m : MethodId} {args : Array Value} {below : List Frame} {meth : Method} {c : Code} {G : mG} {b : Nat} (S : CallFix p m c cX6_rest 5 s args lw_all RX6) (hr : meth.sig.returnType = some .int) (hlk : meth.locks = false) (hK : mK G s) {x : MS × Int32} : ∀ (n : Nat) (σ : MS) (a2 : Int32) (a3 : Int32) (a4 : Int32), fX6_rest_97 n σ a2 a3 a4 = some x → mGo p l e rmX6_rest s m args below meth c G b (MQ below (mQi G b x) args s 0 0 (mB b)) 5 97 [(0, .ref b), (2, .int a2), (3, .int a3), (4, .int a4)] [] σ := by
  obtain ⟨hx, hb, hml, hown, hts⟩ := id S
  intro n
  induction n with
  | zero => intro σ a2 a3 a4 h; cases h
  | succ n ih =>
    intro σ a2 a3 a4 h H locs hM hS ls hl
    rw [fX6_rest_97] at h
    refine lv_iload hx hb dX6_rest_97 (lv_at hl 3 rfl) ?_
    refine lv_iload_n hx hb dX6_rest_99 rfl (lv_at hl 1 rfl) ?_
    refine lv_icmp_ge (tgt := 138) hx hb dX6_rest_100 (by decide) (fun c1 => ?_) (fun c1 => ?_)
    · replace h := it c1 h
      refine lv_iload_n hx hb dX6_rest_138 rfl (lv_at hl 2 rfl) ?_
      exact m_iret S hr hlk rfl hM hS h dX6_rest_139
    replace h := ie c1 h
    refine lv_iload_n hx hb dX6_rest_103 rfl (lv_at hl 2 rfl) ?_
    refine lv_iconst (v := (-1 : Int32)) hx hb dX6_rest_104 (by decide) ?_
    refine lv_icmp_eq (tgt := 120) hx hb dX6_rest_105 (by decide) (fun c2 => ?_) (fun c2 => ?_)
    · replace h := it c2 h
      exact wX6_rest_120 S hr hlk hK ih σ a2 a3 a4 h _ _ hM hS _ (lv_sub hl [0, 1, 2, 3] rfl)
    replace h := ie c2 h
    refine lv_iload hx hb dX6_rest_108 (lv_at hl 3 rfl) ?_
    replace h := ob h
    obtain ⟨x3, hx3, h⟩ := h
    refine kX6_bits S hK hM hS hx3 ⟨Nat.le_of_ble_eq_true rfl, Nat.le_of_ble_eq_true rfl⟩ hl.1 (Nat.le_of_ble_eq_true rfl) dX6_rest_110 (fun H locs hM hS => ?_)
    refine lv_iload_n hx hb dX6_rest_113 rfl (lv_at hl 2 rfl) ?_
    replace h := ob h
    obtain ⟨x4, hx4, h⟩ := h
    refine kX6_bits S hK hM hS hx4 ⟨Nat.le_of_ble_eq_true rfl, Nat.le_of_ble_eq_true rfl⟩ hl.1 (Nat.le_of_ble_eq_true rfl) dX6_rest_114 (fun H locs hM hS => ?_)
    refine lv_icmp_ge (tgt := 132) hx hb dX6_rest_117 (by decide) (fun c5 => ?_) (fun c5 => ?_)
    · replace h := it c5 h
      exact wX6_rest_132 S hr hlk hK ih σ a2 a3 a4 h _ _ hM hS _ (lv_sub hl [0, 1, 2, 3] rfl)
    replace h := ie c5 h
    exact wX6_rest_120 S hr hlk hK ih σ a2 a3 a4 h _ _ hM hS _ (lv_sub hl [0, 1, 2, 3] rfl)
set_option maxHeartbeats 4000000 in
theorem wX6_rest_26 {p : Program} {l : Launch} {e : Env} {s : State} {m : MethodId} {args : Array Value} {below : List Frame} {meth : Method} {c : Code} {G : mG} {b : Nat} (S : CallFix p m c cX6_rest 5 s args lw_all RX6) (hr : meth.sig.returnType = some .int) (hlk : meth.locks = false) (hK : mK G s) {x : MS × Int32} : ∀ (n : Nat) (σ : MS) (a1 : Int32) (a2 : Int32) (a3 : Int32), fX6_rest_26 n σ a1 a2 a3 = some x → mGo p l e rmX6_rest s m args below meth c G b (MQ below (mQi G b x) args s 0 0 (mB b)) 5 26 [(0, .ref b), (1, .int a1), (2, .int a2), (3, .int a3)] [] σ := by
  obtain ⟨hx, hb, hml, hown, hts⟩ := id S
  intro n
  induction n with
  | zero => intro σ a1 a2 a3 h; cases h
  | succ n ih =>
    intro σ a1 a2 a3 h H locs hM hS ls hl
    rw [fX6_rest_26] at h
    refine lv_iload_n hx hb dX6_rest_26 rfl (lv_at hl 3 rfl) ?_
    refine lv_iload_n hx hb dX6_rest_27 rfl (lv_at hl 2 rfl) ?_
    refine lv_icmp_ge (tgt := 88) hx hb dX6_rest_28 (by decide) (fun c1 => ?_) (fun c1 => ?_)
    · replace h := it c1 h
      refine lv_aload_n hx hb dX6_rest_88 rfl (lv_at hl 0 rfl) ?_
      replace h := ob h
      obtain ⟨x2, hx2, h⟩ := h
      refine kX6_takesBack S hK hM hS hx2 ⟨Nat.le_of_ble_eq_true rfl, Nat.le_of_ble_eq_true rfl⟩ hl.1 (Nat.le_of_ble_eq_true rfl) dX6_rest_89 (fun H locs hM hS => ?_)
      refine lv_iconst (v := (-1 : Int32)) hx hb dX6_rest_92 (by decide) ?_
      refine lv_istore_n (lv' := [(3, .int (-1 : Int32)), (0, .ref b), (1, .int a1), (2, .int a2)]) hx hb dX6_rest_93 rfl hl (by decide) rfl (fun ls hl => ?_)
      refine lv_iconst (v := (0 : Int32)) hx hb dX6_rest_94 (by decide) ?_
      refine lv_istore (lv' := [(4, .int (0 : Int32)), (3, .int (-1 : Int32)), (0, .ref b), (1, .int a1), (2, .int a2)]) hx hb dX6_rest_95 hl (by decide) rfl (fun ls hl => ?_)
      exact wX6_rest_97 S hr hlk hK FU x2 a2 (-1 : Int32) (0 : Int32) h _ _ hM hS _ (lv_sub hl [2, 4, 1, 0] rfl)
    replace h := ie c1 h
    refine lv_aload_n hx hb dX6_rest_31 rfl (lv_at hl 0 rfl) ?_
    refine lv_iload_n hx hb dX6_rest_32 rfl (lv_at hl 3 rfl) ?_
    replace h := ob h
    obtain ⟨x3, hx3, h⟩ := h
    refine kX6_pressAll S hK hM hS hx3 ⟨Nat.le_of_ble_eq_true rfl, Nat.le_of_ble_eq_true rfl⟩ hl.1 (Nat.le_of_ble_eq_true rfl) dX6_rest_33 (fun H locs hM hS => ?_)
    refine lv_aload_n hx hb dX6_rest_36 rfl (lv_at hl 0 rfl) ?_
    refine lv_iload_n hx hb dX6_rest_37 rfl (lv_at hl 1 rfl) ?_
    replace h := ob h
    obtain ⟨x4, hx4, h⟩ := h
    refine kX6_hoursGo S hK hM hS hx4 ⟨Nat.le_of_ble_eq_true rfl, Nat.le_of_ble_eq_true rfl⟩ hl.1 (Nat.le_of_ble_eq_true rfl) dX6_rest_38 (fun H locs hM hS => ?_)
    refine lv_pop hx hb dX6_rest_41 rfl ?_
    refine lv_aload_n hx hb dX6_rest_42 rfl (lv_at hl 0 rfl) ?_
    replace h := ob h
    obtain ⟨x5, hx5, h⟩ := h
    refine kX6_triesAnew S hK hM hS hx5 ⟨Nat.le_of_ble_eq_true rfl, Nat.le_of_ble_eq_true rfl⟩ hl.1 (Nat.le_of_ble_eq_true rfl) dX6_rest_43 (fun H locs hM hS => ?_)
    refine lv_iconst (v := (0 : Int32)) hx hb dX6_rest_46 (by decide) ?_
    refine lv_istore (lv' := [(4, .int (0 : Int32)), (0, .ref b), (1, .int a1), (2, .int a2), (3, .int a3)]) hx hb dX6_rest_47 hl (by decide) rfl (fun ls hl => ?_)
    exact wX6_rest_49 S hr hlk hK ih FU x5 a1 a2 a3 (0 : Int32) h _ _ hM hS _ (lv_sub hl [1, 2, 3, 4, 0] rfl)
set_option maxHeartbeats 4000000 in
theorem metX6_rest {l : Launch} {G : mG} {b : Nat} {σ : MS} {a1 : Int32} {x : MS × Int32} (h : fX6_rest σ a1 = some x) : Met l yX6_rest (ws_ yX6_rest cX6_rest 5 (some .int)) rmX6_rest (mP G b σ [.ref b, .int a1]) (mQi G b x) 0 0 (mB b) := by
  refine m_entry (by decide) rfl (Nat.le_of_ble_eq_true rfl) ?_
  intro p e s m below meth c S hr hlk hK hM hS ls hl
  replace hl : lv_has ls 5 [(0, .ref b), (1, .int a1)] := hl
  obtain ⟨hx, hb, hml, hown, hts⟩ := id S
  unfold fX6_rest at h
  refine lv_aload_n hx hb dX6_rest_0 rfl (lv_at hl 0 rfl) ?_
  refine lv_iload_n hx hb dX6_rest_1 rfl (lv_at hl 1 rfl) ?_
  refine lv_iconst (v := (0 : Int32)) hx hb dX6_rest_2 (by decide) ?_
  refine lv_bipush (v := (48 : Int32)) hx hb dX6_rest_3 (by decide) ?_
  replace h := ob h
  obtain ⟨x1, hx1, h⟩ := h
  refine kX6_isAhead S hK hM hS hx1 ⟨Nat.le_of_ble_eq_true rfl, Nat.le_of_ble_eq_true rfl⟩ hl.1 (Nat.le_of_ble_eq_true rfl) dX6_rest_5 (fun H locs hM hS => ?_)
  refine lv_if_ne (tgt := 13) hx hb dX6_rest_8 (by decide) (fun c2 => ?_) (fun c2 => ?_)
  rotate_left 1
  · replace h := it c2 h
    refine lv_iconst (v := (-1 : Int32)) hx hb dX6_rest_11 (by decide) ?_
    exact m_iret S hr hlk rfl hM hS h dX6_rest_12
  replace h := ie c2 h
  refine lv_iconst (v := (1 : Int32)) hx hb dX6_rest_13 (by decide) ?_
  refine lv_aload_n hx hb dX6_rest_14 rfl (lv_at hl 0 rfl) ?_
  replace h := ob h
  obtain ⟨x3, hx3, h⟩ := h
  refine kX6_personMany S hK hM hS hx3 ⟨Nat.le_of_ble_eq_true rfl, Nat.le_of_ble_eq_true rfl⟩ hl.1 (Nat.le_of_ble_eq_true rfl) dX6_rest_15 (fun H locs hM hS => ?_)
  refine lv_ishl hx hb dX6_rest_18 ?_
  refine lv_istore_n (lv' := [(2, .int ((1 : Int32) <<< (x3 &&& 31))), (0, .ref b), (1, .int a1)]) hx hb dX6_rest_19 rfl hl (by decide) rfl (fun ls hl => ?_)
  refine lv_aload_n hx hb dX6_rest_20 rfl (lv_at hl 1 rfl) ?_
  replace h := ob h
  obtain ⟨x4, hx4, h⟩ := h
  refine kX6_putsAside S hK hM hS hx4 ⟨Nat.le_of_ble_eq_true rfl, Nat.le_of_ble_eq_true rfl⟩ hl.1 (Nat.le_of_ble_eq_true rfl) dX6_rest_21 (fun H locs hM hS => ?_)
  refine lv_iconst (v := (0 : Int32)) hx hb dX6_rest_24 (by decide) ?_
  refine lv_istore_n (lv' := [(3, .int (0 : Int32)), (2, .int ((1 : Int32) <<< (x3 &&& 31))), (0, .ref b), (1, .int a1)]) hx hb dX6_rest_25 rfl hl (by decide) rfl (fun ls hl => ?_)
  exact wX6_rest_26 S hr hlk hK FU x4 a1 ((1 : Int32) <<< (x3 &&& 31)) (0 : Int32) h _ _ hM hS _ (lv_sub hl [2, 3, 1, 0] rfl)
/-! gone(II)I -/
abbrev rmX6_gone : Room := { frames := 8, cells := 0, slots := 0, locals := 161 }
def fX6_gone_92 (σ : MS) (a3 : Int32) (t0 : Int32) : Option (MS × Int32) :=
  (fX6_takesBack σ).bind fun x1 =>
  if t0 = 0 then
    some (x1, (-1 : Int32))
  else
  some (x1, a3)
def fX6_gone_69 (σ : MS) (a1 : Int32) (a2 : Int32) (a3 : Int32) : Option (MS × Int32) :=
  (fX6_profileOf σ a1).bind fun x1 =>
  (fX6_tasteAt σ x1 a2).bind fun x2 =>
  (aI σ 54 x2).bind fun v3 =>
  if v3 = 0 then
    fX6_gone_92 σ a3 (1 : Int32)
  else
  fX6_gone_92 σ a3 (0 : Int32)
def fX6_gone_24 : Nat → MS → Int32 → Int32 → Int32 → Option (MS × Int32)
  | 0, _, _, _, _ => none
  | n + 1, σ, a1, a2, a3 =>
    (fX6_profileOf σ a1).bind fun x1 =>
    (fX6_tasteAt σ x1 a2).bind fun x2 =>
    (aI σ 54 x2).bind fun v3 =>
    if v3 ≤ 0 then
      fX6_gone_69 σ a1 a2 a3
    else
    if (72 : Int32) ≤ a3 then
      fX6_gone_69 σ a1 a2 a3
    else
    (fX6_isAhead σ (1 : Int32) (1 : Int32) (1 : Int32)).bind fun x6 =>
    if x6 = 0 then
      fX6_gone_69 σ a1 a2 a3
    else
    (fX6_hourGoes σ).bind fun x8 =>
    fX6_gone_24 n x8.1 a1 a2 (a3 + (1 : Int32))
def fX6_gone (σ : MS) (a1 : Int32) (a2 : Int32) : Option (MS × Int32) :=
  (fX6_isPerson σ a1).bind fun x1 =>
  if x1 = 0 then
    some (σ, (-1 : Int32))
  else
  (fX6_isKind σ a2).bind fun x3 =>
  if x3 = 0 then
    some (σ, (-1 : Int32))
  else
  (fX6_putsAside σ).bind fun x5 =>
  fX6_gone_24 FU x5 a1 a2 (0 : Int32)
set_option maxHeartbeats 4000000 in
theorem wX6_gone_92 {p : Program} {l : Launch} {e : Env} {s : State} {m : MethodId} {args : Array Value} {below : List Frame} {meth : Method} {c : Code} {G : mG} {b : Nat} (S : CallFix p m c cX6_gone 5 s args lw_all RX6) (hr : meth.sig.returnType = some .int) (hlk : meth.locks = false) (hK : mK G s) {x : MS × Int32} : ∀ (σ : MS) (a3 : Int32) (t0 : Int32), fX6_gone_92 σ a3 t0 = some x → mGo p l e rmX6_gone s m args below meth c G b (MQ below (mQi G b x) args s 0 0 (mB b)) 5 92 [(0, .ref b), (3, .int a3)] [.int t0] σ := by
  obtain ⟨hx, hb, hml, hown, hts⟩ := id S
  intro σ a3 t0 h H locs hM hS ls hl
  unfold fX6_gone_92 at h
  refine lv_istore (lv' := [(4, .int t0), (0, .ref b), (3, .int a3)]) hx hb dX6_gone_92 hl (by decide) rfl (fun ls hl => ?_)
  refine lv_aload_n hx hb dX6_gone_94 rfl (lv_at hl 1 rfl) ?_
  replace h := ob h
  obtain ⟨x1, hx1, h⟩ := h
  refine kX6_takesBack S hK hM hS hx1 ⟨Nat.le_of_ble_eq_true rfl, Nat.le_of_ble_eq_true rfl⟩ hl.1 (Nat.le_of_ble_eq_true rfl) dX6_gone_95 (fun H locs hM hS => ?_)
  refine lv_iload hx hb dX6_gone_98 (lv_at hl 0 rfl) ?_
  refine lv_if_eq (tgt := 107) hx hb dX6_gone_100 (by decide) (fun c2 => ?_) (fun c2 => ?_)
  · replace h := it c2 h
    refine lv_iconst (v := (-1 : Int32)) hx hb dX6_gone_107 (by decide) ?_
    exact m_iret S hr hlk rfl hM hS h dX6_gone_108
  replace h := ie c2 h
  refine lv_iload_n hx hb dX6_gone_103 rfl (lv_at hl 2 rfl) ?_
  refine lv_goto (tgt := 108) hx hb dX6_gone_104 (by decide) ?_
  exact m_iret S hr hlk rfl hM hS h dX6_gone_108
set_option maxHeartbeats 4000000 in
theorem wX6_gone_69 {p : Program} {l : Launch} {e : Env} {s : State} {m : MethodId} {args : Array Value} {below : List Frame} {meth : Method} {c : Code} {G : mG} {b : Nat} (S : CallFix p m c cX6_gone 5 s args lw_all RX6) (hr : meth.sig.returnType = some .int) (hlk : meth.locks = false) (hK : mK G s) {x : MS × Int32} : ∀ (σ : MS) (a1 : Int32) (a2 : Int32) (a3 : Int32), fX6_gone_69 σ a1 a2 a3 = some x → mGo p l e rmX6_gone s m args below meth c G b (MQ below (mQi G b x) args s 0 0 (mB b)) 5 69 [(0, .ref b), (1, .int a1), (2, .int a2), (3, .int a3)] [] σ := by
  obtain ⟨hx, hb, hml, hown, hts⟩ := id S
  intro σ a1 a2 a3 h H locs hM hS ls hl
  unfold fX6_gone_69 at h
  refine lv_aload_n hx hb dX6_gone_69 rfl (lv_at hl 0 rfl) ?_
  refine m_get S hK hM 54 (Nat.le_of_ble_eq_true rfl) q1786 (v := .ref (ma b 54)) rfl dX6_gone_70 ?_
  refine lv_aload_n hx hb dX6_gone_73 rfl (lv_at hl 0 rfl) ?_
  refine lv_aload_n hx hb dX6_gone_74 rfl (lv_at hl 0 rfl) ?_
  refine lv_iload_n hx hb dX6_gone_75 rfl (lv_at hl 1 rfl) ?_
  replace h := ob h
  obtain ⟨x1, hx1, h⟩ := h
  refine kX6_profileOf S hK hM hS hx1 ⟨Nat.le_of_ble_eq_true rfl, Nat.le_of_ble_eq_true rfl⟩ hl.1 (Nat.le_of_ble_eq_true rfl) dX6_gone_76 (fun H locs hM hS => ?_)
  refine lv_iload_n hx hb dX6_gone_79 rfl (lv_at hl 2 rfl) ?_
  replace h := ob h
  obtain ⟨x2, hx2, h⟩ := h
  refine kX6_tasteAt S hK hM hS hx2 ⟨Nat.le_of_ble_eq_true rfl, Nat.le_of_ble_eq_true rfl⟩ hl.1 (Nat.le_of_ble_eq_true rfl) dX6_gone_80 (fun H locs hM hS => ?_)
  replace h := ob h
  obtain ⟨v3, hv3, h⟩ := h
  refine m_iald S hK hM 54 rfl hv3 dX6_gone_83 ?_
  refine lv_if_ne (tgt := 91) hx hb dX6_gone_84 (by decide) (fun c4 => ?_) (fun c4 => ?_)
  · replace h := ie c4 h
    refine lv_iconst (v := (0 : Int32)) hx hb dX6_gone_91 (by decide) ?_
    exact wX6_gone_92 S hr hlk hK σ a3 (0 : Int32) h _ _ hM hS _ (lv_sub hl [0, 3] rfl)
  replace h := it c4 h
  refine lv_iconst (v := (1 : Int32)) hx hb dX6_gone_87 (by decide) ?_
  refine lv_goto (tgt := 92) hx hb dX6_gone_88 (by decide) ?_
  exact wX6_gone_92 S hr hlk hK σ a3 (1 : Int32) h _ _ hM hS _ (lv_sub hl [0, 3] rfl)
set_option maxHeartbeats 4000000 in
theorem wX6_gone_24 {p : Program} {l : Launch} {e : Env} {s : State} {m : MethodId} {args : Array Value} {below : List Frame} {meth : Method} {c : Code} {G : mG} {b : Nat} (S : CallFix p m c cX6_gone 5 s args lw_all RX6) (hr : meth.sig.returnType = some .int) (hlk : meth.locks = false) (hK : mK G s) {x : MS × Int32} : ∀ (n : Nat) (σ : MS) (a1 : Int32) (a2 : Int32) (a3 : Int32), fX6_gone_24 n σ a1 a2 a3 = some x → mGo p l e rmX6_gone s m args below meth c G b (MQ below (mQi G b x) args s 0 0 (mB b)) 5 24 [(0, .ref b), (1, .int a1), (2, .int a2), (3, .int a3)] [] σ := by
  obtain ⟨hx, hb, hml, hown, hts⟩ := id S
  intro n
  induction n with
  | zero => intro σ a1 a2 a3 h; cases h
  | succ n ih =>
    intro σ a1 a2 a3 h H locs hM hS ls hl
    rw [fX6_gone_24] at h
    refine lv_aload_n hx hb dX6_gone_24 rfl (lv_at hl 0 rfl) ?_
    refine m_get S hK hM 54 (Nat.le_of_ble_eq_true rfl) q1786 (v := .ref (ma b 54)) rfl dX6_gone_25 ?_
    refine lv_aload_n hx hb dX6_gone_28 rfl (lv_at hl 0 rfl) ?_
    refine lv_aload_n hx hb dX6_gone_29 rfl (lv_at hl 0 rfl) ?_
    refine lv_iload_n hx hb dX6_gone_30 rfl (lv_at hl 1 rfl) ?_
    replace h := ob h
    obtain ⟨x1, hx1, h⟩ := h
    refine kX6_profileOf S hK hM hS hx1 ⟨Nat.le_of_ble_eq_true rfl, Nat.le_of_ble_eq_true rfl⟩ hl.1 (Nat.le_of_ble_eq_true rfl) dX6_gone_31 (fun H locs hM hS => ?_)
    refine lv_iload_n hx hb dX6_gone_34 rfl (lv_at hl 2 rfl) ?_
    replace h := ob h
    obtain ⟨x2, hx2, h⟩ := h
    refine kX6_tasteAt S hK hM hS hx2 ⟨Nat.le_of_ble_eq_true rfl, Nat.le_of_ble_eq_true rfl⟩ hl.1 (Nat.le_of_ble_eq_true rfl) dX6_gone_35 (fun H locs hM hS => ?_)
    replace h := ob h
    obtain ⟨v3, hv3, h⟩ := h
    refine m_iald S hK hM 54 rfl hv3 dX6_gone_38 ?_
    refine lv_if_le (tgt := 69) hx hb dX6_gone_39 (by decide) (fun c4 => ?_) (fun c4 => ?_)
    · replace h := it c4 h
      exact wX6_gone_69 S hr hlk hK σ a1 a2 a3 h _ _ hM hS _ (lv_sub hl [0, 1, 2, 3] rfl)
    replace h := ie c4 h
    refine lv_iload_n hx hb dX6_gone_42 rfl (lv_at hl 3 rfl) ?_
    refine lv_bipush (v := (72 : Int32)) hx hb dX6_gone_43 (by decide) ?_
    refine lv_icmp_ge (tgt := 69) hx hb dX6_gone_45 (by decide) (fun c5 => ?_) (fun c5 => ?_)
    · replace h := it c5 h
      exact wX6_gone_69 S hr hlk hK σ a1 a2 a3 h _ _ hM hS _ (lv_sub hl [0, 1, 2, 3] rfl)
    replace h := ie c5 h
    refine lv_aload_n hx hb dX6_gone_48 rfl (lv_at hl 0 rfl) ?_
    refine lv_iconst (v := (1 : Int32)) hx hb dX6_gone_49 (by decide) ?_
    refine lv_iconst (v := (1 : Int32)) hx hb dX6_gone_50 (by decide) ?_
    refine lv_iconst (v := (1 : Int32)) hx hb dX6_gone_51 (by decide) ?_
    replace h := ob h
    obtain ⟨x6, hx6, h⟩ := h
    refine kX6_isAhead S hK hM hS hx6 ⟨Nat.le_of_ble_eq_true rfl, Nat.le_of_ble_eq_true rfl⟩ hl.1 (Nat.le_of_ble_eq_true rfl) dX6_gone_52 (fun H locs hM hS => ?_)
    refine lv_if_eq (tgt := 69) hx hb dX6_gone_55 (by decide) (fun c7 => ?_) (fun c7 => ?_)
    · replace h := it c7 h
      exact wX6_gone_69 S hr hlk hK σ a1 a2 a3 h _ _ hM hS _ (lv_sub hl [0, 1, 2, 3] rfl)
    replace h := ie c7 h
    refine lv_aload_n hx hb dX6_gone_58 rfl (lv_at hl 0 rfl) ?_
    replace h := ob h
    obtain ⟨x8, hx8, h⟩ := h
    refine kX6_hourGoes S hK hM hS hx8 ⟨Nat.le_of_ble_eq_true rfl, Nat.le_of_ble_eq_true rfl⟩ hl.1 (Nat.le_of_ble_eq_true rfl) dX6_gone_59 (fun H locs hM hS => ?_)
    refine lv_pop hx hb dX6_gone_62 rfl ?_
    refine lv_iinc (v := (a3 + (1 : Int32))) (lv' := [(3, .int (a3 + (1 : Int32))), (0, .ref b), (1, .int a1), (2, .int a2)]) hx hb dX6_gone_63 hl (k := 3) rfl rfl (by decide) rfl (fun ls hl => ?_)
    refine lv_goto (tgt := 24) hx hb dX6_gone_66 (by decide) ?_
    exact ih x8.1 a1 a2 (a3 + (1 : Int32)) h _ _ hM hS _ (lv_sub hl [1, 2, 3, 0] rfl)
set_option maxHeartbeats 4000000 in
theorem metX6_gone {l : Launch} {G : mG} {b : Nat} {σ : MS} {a1 : Int32} {a2 : Int32} {x : MS × Int32} (h : fX6_gone σ a1 a2 = some x) : Met l yX6_gone (ws_ yX6_gone cX6_gone 5 (some .int)) rmX6_gone (mP G b σ [.ref b, .int a1, .int a2]) (mQi G b x) 0 0 (mB b) := by
  refine m_entry (by decide) rfl (Nat.le_of_ble_eq_true rfl) ?_
  intro p e s m below meth c S hr hlk hK hM hS ls hl
  replace hl : lv_has ls 5 [(0, .ref b), (1, .int a1), (2, .int a2)] := hl
  obtain ⟨hx, hb, hml, hown, hts⟩ := id S
  unfold fX6_gone at h
  refine lv_aload_n hx hb dX6_gone_0 rfl (lv_at hl 0 rfl) ?_
  refine lv_iload_n hx hb dX6_gone_1 rfl (lv_at hl 1 rfl) ?_
  replace h := ob h
  obtain ⟨x1, hx1, h⟩ := h
  refine kX6_isPerson S hK hM hS hx1 ⟨Nat.le_of_ble_eq_true rfl, Nat.le_of_ble_eq_true rfl⟩ hl.1 (Nat.le_of_ble_eq_true rfl) dX6_gone_2 (fun H locs hM hS => ?_)
  refine lv_if_eq (tgt := 16) hx hb dX6_gone_5 (by decide) (fun c2 => ?_) (fun c2 => ?_)
  · replace h := it c2 h
    refine lv_iconst (v := (-1 : Int32)) hx hb dX6_gone_16 (by decide) ?_
    exact m_iret S hr hlk rfl hM hS h dX6_gone_17
  replace h := ie c2 h
  refine lv_aload_n hx hb dX6_gone_8 rfl (lv_at hl 0 rfl) ?_
  refine lv_iload_n hx hb dX6_gone_9 rfl (lv_at hl 2 rfl) ?_
  replace h := ob h
  obtain ⟨x3, hx3, h⟩ := h
  refine kX6_isKind S hK hM hS hx3 ⟨Nat.le_of_ble_eq_true rfl, Nat.le_of_ble_eq_true rfl⟩ hl.1 (Nat.le_of_ble_eq_true rfl) dX6_gone_10 (fun H locs hM hS => ?_)
  refine lv_if_ne (tgt := 18) hx hb dX6_gone_13 (by decide) (fun c4 => ?_) (fun c4 => ?_)
  rotate_left 1
  · replace h := it c4 h
    refine lv_iconst (v := (-1 : Int32)) hx hb dX6_gone_16 (by decide) ?_
    exact m_iret S hr hlk rfl hM hS h dX6_gone_17
  replace h := ie c4 h
  refine lv_aload_n hx hb dX6_gone_18 rfl (lv_at hl 0 rfl) ?_
  replace h := ob h
  obtain ⟨x5, hx5, h⟩ := h
  refine kX6_putsAside S hK hM hS hx5 ⟨Nat.le_of_ble_eq_true rfl, Nat.le_of_ble_eq_true rfl⟩ hl.1 (Nat.le_of_ble_eq_true rfl) dX6_gone_19 (fun H locs hM hS => ?_)
  refine lv_iconst (v := (0 : Int32)) hx hb dX6_gone_22 (by decide) ?_
  refine lv_istore_n (lv' := [(3, .int (0 : Int32)), (0, .ref b), (1, .int a1), (2, .int a2)]) hx hb dX6_gone_23 rfl hl (by decide) rfl (fun ls hl => ?_)
  exact wX6_gone_24 S hr hlk hK FU x5 a1 a2 (0 : Int32) h _ _ hM hS _ (lv_sub hl [1, 2, 3, 0] rfl)
/-! sow(II)I -/
abbrev rmX6_sow : Room := { frames := 9, cells := 0, slots := 0, locals := 184 }
def fX6_sow_118 (k40 : MS → Int32 → Int32 → Int32 → Int32 → Int64 → Int32 → Option (MS × Int32)) (σ : MS) (a1 : Int32) (a2 : Int32) (a3 : Int32) (a4 : Int32) (a5 : Int64) (a7 : Int32) : Option (MS × Int32) :=
  k40 σ a1 a2 a3 a4 a5 (a7 + (1 : Int32))
def fX6_sow_106 (k40 : MS → Int32 → Int32 → Int32 → Int32 → Int64 → Int32 → Option (MS × Int32)) (σ : MS) (a1 : Int32) (a2 : Int32) (a3 : Int32) (a7 : Int32) : Option (MS × Int32) :=
  (aL σ 62 a1).bind fun v1 =>
  fX6_sow_118 k40 σ a1 a2 a3 a7 v1 a7
def fX6_sow_40 : Nat → MS → Int32 → Int32 → Int32 → Int32 → Int64 → Int32 → Option (MS × Int32)
  | 0, _, _, _, _, _, _, _ => none
  | n + 1, σ, a1, a2, a3, a4, a5, a7 =>
    (fX6_filmMany σ).bind fun x1 =>
    if x1 ≤ a7 then
      (fX6_takesBack σ).bind fun x3 =>
      some (x3, a4)
    else
    (fX6_seenBy σ a3 a7).bind fun x4 =>
    (fX6_partsOf σ a7).bind fun x5 =>
    if x4 = x5 then
      fX6_sow_118 (fun σ' b1 b2 b3 b4 b5 b7 => fX6_sow_40 n σ' b1 b2 b3 b4 b5 b7) σ a1 a2 a3 a4 a5 a7
    else
    (fX6_partSeen σ a3 a7).bind fun x7 =>
    (fX6_hoursGo x7 a2).bind fun x8 =>
    (fX6_triesAnew x8.1).bind fun x9 =>
    if a4 = (-1 : Int32) then
      fX6_sow_106 (fun σ' b1 b2 b3 b4 b5 b7 => fX6_sow_40 n σ' b1 b2 b3 b4 b5 b7) x9 a1 a2 a3 a7
    else
    (aL x9 62 a1).bind fun v11 =>
    if a5 < v11 then
      fX6_sow_106 (fun σ' b1 b2 b3 b4 b5 b7 => fX6_sow_40 n σ' b1 b2 b3 b4 b5 b7) x9 a1 a2 a3 a7
    else
    fX6_sow_118 (fun σ' b1 b2 b3 b4 b5 b7 => fX6_sow_40 n σ' b1 b2 b3 b4 b5 b7) x9 a1 a2 a3 a4 a5 a7
def fX6_sow (σ : MS) (a1 : Int32) (a2 : Int32) : Option (MS × Int32) :=
  (fX6_isPerson σ a1).bind fun x1 =>
  if x1 = 0 then
    some (σ, (-1 : Int32))
  else
  (fX6_isAhead σ a2 (0 : Int32) (72 : Int32)).bind fun x3 =>
  if x3 = 0 then
    some (σ, (-1 : Int32))
  else
  (fX6_profileOf σ a1).bind fun x5 =>
  (fX6_putsAside σ).bind fun x6 =>
  fX6_sow_40 FU x6 a1 a2 x5 (-1 : Int32) (0 : Int64) (0 : Int32)
set_option maxHeartbeats 4000000 in
theorem wX6_sow_118 {p : Program} {l : Launch} {e : Env} {s : State} {m : MethodId} {args : Array Value} {below : List Frame} {meth : Method} {c : Code} {G : mG} {b : Nat} (S : CallFix p m c cX6_sow 8 s args lw_all RX6) (hr : meth.sig.returnType = some .int) (hlk : meth.locks = false) (hK : mK G s) {x : MS × Int32} {k40 : MS → Int32 → Int32 → Int32 → Int32 → Int64 → Int32 → Option (MS × Int32)} (hk40 : ∀ σ a1 a2 a3 a4 a5 a7, k40 σ a1 a2 a3 a4 a5 a7 = some x → mGo p l e rmX6_sow s m args below meth c G b (MQ below (mQi G b x) args s 0 0 (mB b)) 8 40 [(0, .ref b), (1, .int a1), (2, .int a2), (3, .int a3), (4, .int a4), (5, .long a5), (7, .int a7)] [] σ) : ∀ (σ : MS) (a1 : Int32) (a2 : Int32) (a3 : Int32) (a4 : Int32) (a5 : Int64) (a7 : Int32), fX6_sow_118 k40 σ a1 a2 a3 a4 a5 a7 = some x → mGo p l e rmX6_sow s m args below meth c G b (MQ below (mQi G b x) args s 0 0 (mB b)) 8 118 [(0, .ref b), (1, .int a1), (2, .int a2), (3, .int a3), (4, .int a4), (5, .long a5), (7, .int a7)] [] σ := by
  obtain ⟨hx, hb, hml, hown, hts⟩ := id S
  intro σ a1 a2 a3 a4 a5 a7 h H locs hM hS ls hl
  unfold fX6_sow_118 at h
  refine lv_iinc (v := (a7 + (1 : Int32))) (lv' := [(7, .int (a7 + (1 : Int32))), (0, .ref b), (1, .int a1), (2, .int a2), (3, .int a3), (4, .int a4), (5, .long a5)]) hx hb dX6_sow_118 hl (k := 6) rfl rfl (by decide) rfl (fun ls hl => ?_)
  refine lv_goto (tgt := 40) hx hb dX6_sow_121 (by decide) ?_
  exact hk40 σ a1 a2 a3 a4 a5 (a7 + (1 : Int32)) h _ _ hM hS _ (lv_sub hl [1, 2, 3, 4, 5, 6, 0] rfl)
set_option maxHeartbeats 4000000 in
theorem wX6_sow_106 {p : Program} {l : Launch} {e : Env} {s : State} {m : MethodId} {args : Array Value} {below : List Frame} {meth : Method} {c : Code} {G : mG} {b : Nat} (S : CallFix p m c cX6_sow 8 s args lw_all RX6) (hr : meth.sig.returnType = some .int) (hlk : meth.locks = false) (hK : mK G s) {x : MS × Int32} {k40 : MS → Int32 → Int32 → Int32 → Int32 → Int64 → Int32 → Option (MS × Int32)} (hk40 : ∀ σ a1 a2 a3 a4 a5 a7, k40 σ a1 a2 a3 a4 a5 a7 = some x → mGo p l e rmX6_sow s m args below meth c G b (MQ below (mQi G b x) args s 0 0 (mB b)) 8 40 [(0, .ref b), (1, .int a1), (2, .int a2), (3, .int a3), (4, .int a4), (5, .long a5), (7, .int a7)] [] σ) : ∀ (σ : MS) (a1 : Int32) (a2 : Int32) (a3 : Int32) (a7 : Int32), fX6_sow_106 k40 σ a1 a2 a3 a7 = some x → mGo p l e rmX6_sow s m args below meth c G b (MQ below (mQi G b x) args s 0 0 (mB b)) 8 106 [(0, .ref b), (1, .int a1), (2, .int a2), (3, .int a3), (7, .int a7)] [] σ := by
  obtain ⟨hx, hb, hml, hown, hts⟩ := id S
  intro σ a1 a2 a3 a7 h H locs hM hS ls hl
  unfold fX6_sow_106 at h
  refine lv_iload hx hb dX6_sow_106 (lv_at hl 4 rfl) ?_
  refine lv_istore (lv' := [(4, .int a7), (0, .ref b), (1, .int a1), (2, .int a2), (3, .int a3), (7, .int a7)]) hx hb dX6_sow_108 hl (by decide) rfl (fun ls hl => ?_)
  refine lv_aload_n hx hb dX6_sow_110 rfl (lv_at hl 1 rfl) ?_
  refine m_get S hK hM 62 (Nat.le_of_ble_eq_true rfl) q1794 (v := .ref (ma b 62)) rfl dX6_sow_111 ?_
  refine lv_iload_n hx hb dX6_sow_114 rfl (lv_at hl 2 rfl) ?_
  replace h := ob h
  obtain ⟨v1, hv1, h⟩ := h
  refine m_lald S hK hM 62 rfl hv1 dX6_sow_115 ?_
  refine lv_lstore (lv' := [(5, .long v1), (4, .int a7), (0, .ref b), (1, .int a1), (2, .int a2), (3, .int a3), (7, .int a7)]) hx hb dX6_sow_116 hl (by decide) rfl (fun ls hl => ?_)
  exact wX6_sow_118 S hr hlk hK hk40 σ a1 a2 a3 a7 v1 a7 h _ _ hM hS _ (lv_sub hl [2, 3, 4, 5, 1, 0, 6] rfl)
set_option maxHeartbeats 4000000 in
theorem wX6_sow_40 {p : Program} {l : Launch} {e : Env} {s : State} {m : MethodId} {args : Array Value} {below : List Frame} {meth : Method} {c : Code} {G : mG} {b : Nat} (S : CallFix p m c cX6_sow 8 s args lw_all RX6) (hr : meth.sig.returnType = some .int) (hlk : meth.locks = false) (hK : mK G s) {x : MS × Int32} : ∀ (n : Nat) (σ : MS) (a1 : Int32) (a2 : Int32) (a3 : Int32) (a4 : Int32) (a5 : Int64) (a7 : Int32), fX6_sow_40 n σ a1 a2 a3 a4 a5 a7 = some x → mGo p l e rmX6_sow s m args below meth c G b (MQ below (mQi G b x) args s 0 0 (mB b)) 8 40 [(0, .ref b), (1, .int a1), (2, .int a2), (3, .int a3), (4, .int a4), (5, .long a5), (7, .int a7)] [] σ := by
  obtain ⟨hx, hb, hml, hown, hts⟩ := id S
  intro n
  induction n with
  | zero => intro σ a1 a2 a3 a4 a5 a7 h; cases h
  | succ n ih =>
    intro σ a1 a2 a3 a4 a5 a7 h H locs hM hS ls hl
    rw [fX6_sow_40] at h
    refine lv_iload hx hb dX6_sow_40 (lv_at hl 6 rfl) ?_
    refine lv_aload_n hx hb dX6_sow_42 rfl (lv_at hl 0 rfl) ?_
    replace h := ob h
    obtain ⟨x1, hx1, h⟩ := h
    refine kX6_filmMany S hK hM hS hx1 ⟨Nat.le_of_ble_eq_true rfl, Nat.le_of_ble_eq_true rfl⟩ hl.1 (Nat.le_of_ble_eq_true rfl) dX6_sow_43 (fun H locs hM hS => ?_)
    refine lv_icmp_ge (tgt := 124) hx hb dX6_sow_46 (by decide) (fun c2 => ?_) (fun c2 => ?_)
    · replace h := it c2 h
      refine lv_aload_n hx hb dX6_sow_124 rfl (lv_at hl 0 rfl) ?_
      replace h := ob h
      obtain ⟨x3, hx3, h⟩ := h
      refine kX6_takesBack S hK hM hS hx3 ⟨Nat.le_of_ble_eq_true rfl, Nat.le_of_ble_eq_true rfl⟩ hl.1 (Nat.le_of_ble_eq_true rfl) dX6_sow_125 (fun H locs hM hS => ?_)
      refine lv_iload hx hb dX6_sow_128 (lv_at hl 4 rfl) ?_
      exact m_iret S hr hlk rfl hM hS h dX6_sow_130
    replace h := ie c2 h
    refine lv_aload_n hx hb dX6_sow_49 rfl (lv_at hl 0 rfl) ?_
    refine lv_iload_n hx hb dX6_sow_50 rfl (lv_at hl 3 rfl) ?_
    refine lv_iload hx hb dX6_sow_51 (lv_at hl 6 rfl) ?_
    replace h := ob h
    obtain ⟨x4, hx4, h⟩ := h
    refine kX6_seenBy S hK hM hS hx4 ⟨Nat.le_of_ble_eq_true rfl, Nat.le_of_ble_eq_true rfl⟩ hl.1 (Nat.le_of_ble_eq_true rfl) dX6_sow_53 (fun H locs hM hS => ?_)
    refine lv_aload_n hx hb dX6_sow_56 rfl (lv_at hl 0 rfl) ?_
    refine lv_iload hx hb dX6_sow_57 (lv_at hl 6 rfl) ?_
    replace h := ob h
    obtain ⟨x5, hx5, h⟩ := h
    refine kX6_partsOf S hK hM hS hx5 ⟨Nat.le_of_ble_eq_true rfl, Nat.le_of_ble_eq_true rfl⟩ hl.1 (Nat.le_of_ble_eq_true rfl) dX6_sow_59 (fun H locs hM hS => ?_)
    refine lv_icmp_ne (tgt := 68) hx hb dX6_sow_62 (by decide) (fun c6 => ?_) (fun c6 => ?_)
    rotate_left 1
    · replace h := it c6 h
      refine lv_goto (tgt := 118) hx hb dX6_sow_65 (by decide) ?_
      exact wX6_sow_118 S hr hlk hK ih σ a1 a2 a3 a4 a5 a7 h _ _ hM hS _ (lv_sub hl [0, 1, 2, 3, 4, 5, 6] rfl)
    replace h := ie c6 h
    refine lv_aload_n hx hb dX6_sow_68 rfl (lv_at hl 0 rfl) ?_
    refine lv_iload_n hx hb dX6_sow_69 rfl (lv_at hl 3 rfl) ?_
    refine lv_iload hx hb dX6_sow_70 (lv_at hl 6 rfl) ?_
    replace h := ob h
    obtain ⟨x7, hx7, h⟩ := h
    refine kX6_partSeen S hK hM hS hx7 ⟨Nat.le_of_ble_eq_true rfl, Nat.le_of_ble_eq_true rfl⟩ hl.1 (Nat.le_of_ble_eq_true rfl) dX6_sow_72 (fun H locs hM hS => ?_)
    refine lv_aload_n hx hb dX6_sow_75 rfl (lv_at hl 0 rfl) ?_
    refine lv_iload_n hx hb dX6_sow_76 rfl (lv_at hl 2 rfl) ?_
    replace h := ob h
    obtain ⟨x8, hx8, h⟩ := h
    refine kX6_hoursGo S hK hM hS hx8 ⟨Nat.le_of_ble_eq_true rfl, Nat.le_of_ble_eq_true rfl⟩ hl.1 (Nat.le_of_ble_eq_true rfl) dX6_sow_77 (fun H locs hM hS => ?_)
    refine lv_pop hx hb dX6_sow_80 rfl ?_
    refine lv_aload_n hx hb dX6_sow_81 rfl (lv_at hl 0 rfl) ?_
    replace h := ob h
    obtain ⟨x9, hx9, h⟩ := h
    refine kX6_triesAnew S hK hM hS hx9 ⟨Nat.le_of_ble_eq_true rfl, Nat.le_of_ble_eq_true rfl⟩ hl.1 (Nat.le_of_ble_eq_true rfl) dX6_sow_82 (fun H locs hM hS => ?_)
    refine lv_iload hx hb dX6_sow_85 (lv_at hl 4 rfl) ?_
    refine lv_iconst (v := (-1 : Int32)) hx hb dX6_sow_87 (by decide) ?_
    refine lv_icmp_eq (tgt := 106) hx hb dX6_sow_88 (by decide) (fun c10 => ?_) (fun c10 => ?_)
    · replace h := it c10 h
      exact wX6_sow_106 S hr hlk hK ih x9 a1 a2 a3 a7 h _ _ hM hS _ (lv_sub hl [0, 1, 2, 3, 6] rfl)
    replace h := ie c10 h
    refine lv_aload_n hx hb dX6_sow_91 rfl (lv_at hl 0 rfl) ?_
    refine m_get S hK hM 62 (Nat.le_of_ble_eq_true rfl) q1794 (v := .ref (ma b 62)) rfl dX6_sow_92 ?_
    refine lv_iload_n hx hb dX6_sow_95 rfl (lv_at hl 1 rfl) ?_
    replace h := ob h
    obtain ⟨v11, hv11, h⟩ := h
    refine m_lald S hK hM 62 rfl hv11 dX6_sow_96 ?_
    refine lv_lload hx hb dX6_sow_97 (lv_at hl 5 rfl) ?_
    refine m_lcmp S dX6_sow_99 ?_
    refine lv_if_gt (tgt := 106) hx hb dX6_sow_100 (by decide) (fun c12 => ?_) (fun c12 => ?_)
    · replace h := it ((lg_cmp_gt _ _).mp c12) h
      exact wX6_sow_106 S hr hlk hK ih x9 a1 a2 a3 a7 h _ _ hM hS _ (lv_sub hl [0, 1, 2, 3, 6] rfl)
    replace h := ie (fun q => c12 ((lg_cmp_gt _ _).mpr q)) h
    refine lv_goto (tgt := 118) hx hb dX6_sow_103 (by decide) ?_
    exact wX6_sow_118 S hr hlk hK ih x9 a1 a2 a3 a4 a5 a7 h _ _ hM hS _ (lv_sub hl [0, 1, 2, 3, 4, 5, 6] rfl)
set_option maxHeartbeats 4000000 in
theorem metX6_sow {l : Launch} {G : mG} {b : Nat} {σ : MS} {a1 : Int32} {a2 : Int32} {x : MS × Int32} (h : fX6_sow σ a1 a2 = some x) : Met l yX6_sow (ws_ yX6_sow cX6_sow 8 (some .int)) rmX6_sow (mP G b σ [.ref b, .int a1, .int a2]) (mQi G b x) 0 0 (mB b) := by
  refine m_entry (by decide) rfl (Nat.le_of_ble_eq_true rfl) ?_
  intro p e s m below meth c S hr hlk hK hM hS ls hl
  replace hl : lv_has ls 8 [(0, .ref b), (1, .int a1), (2, .int a2)] := hl
  obtain ⟨hx, hb, hml, hown, hts⟩ := id S
  unfold fX6_sow at h
  refine lv_aload_n hx hb dX6_sow_0 rfl (lv_at hl 0 rfl) ?_
  refine lv_iload_n hx hb dX6_sow_1 rfl (lv_at hl 1 rfl) ?_
  replace h := ob h
  obtain ⟨x1, hx1, h⟩ := h
  refine kX6_isPerson S hK hM hS hx1 ⟨Nat.le_of_ble_eq_true rfl, Nat.le_of_ble_eq_true rfl⟩ hl.1 (Nat.le_of_ble_eq_true rfl) dX6_sow_2 (fun H locs hM hS => ?_)
  refine lv_if_eq (tgt := 19) hx hb dX6_sow_5 (by decide) (fun c2 => ?_) (fun c2 => ?_)
  · replace h := it c2 h
    refine lv_iconst (v := (-1 : Int32)) hx hb dX6_sow_19 (by decide) ?_
    exact m_iret S hr hlk rfl hM hS h dX6_sow_20
  replace h := ie c2 h
  refine lv_aload_n hx hb dX6_sow_8 rfl (lv_at hl 0 rfl) ?_
  refine lv_iload_n hx hb dX6_sow_9 rfl (lv_at hl 2 rfl) ?_
  refine lv_iconst (v := (0 : Int32)) hx hb dX6_sow_10 (by decide) ?_
  refine lv_bipush (v := (72 : Int32)) hx hb dX6_sow_11 (by decide) ?_
  replace h := ob h
  obtain ⟨x3, hx3, h⟩ := h
  refine kX6_isAhead S hK hM hS hx3 ⟨Nat.le_of_ble_eq_true rfl, Nat.le_of_ble_eq_true rfl⟩ hl.1 (Nat.le_of_ble_eq_true rfl) dX6_sow_13 (fun H locs hM hS => ?_)
  refine lv_if_ne (tgt := 21) hx hb dX6_sow_16 (by decide) (fun c4 => ?_) (fun c4 => ?_)
  rotate_left 1
  · replace h := it c4 h
    refine lv_iconst (v := (-1 : Int32)) hx hb dX6_sow_19 (by decide) ?_
    exact m_iret S hr hlk rfl hM hS h dX6_sow_20
  replace h := ie c4 h
  refine lv_aload_n hx hb dX6_sow_21 rfl (lv_at hl 0 rfl) ?_
  refine lv_iload_n hx hb dX6_sow_22 rfl (lv_at hl 1 rfl) ?_
  replace h := ob h
  obtain ⟨x5, hx5, h⟩ := h
  refine kX6_profileOf S hK hM hS hx5 ⟨Nat.le_of_ble_eq_true rfl, Nat.le_of_ble_eq_true rfl⟩ hl.1 (Nat.le_of_ble_eq_true rfl) dX6_sow_23 (fun H locs hM hS => ?_)
  refine lv_istore_n (lv' := [(3, .int x5), (0, .ref b), (1, .int a1), (2, .int a2)]) hx hb dX6_sow_26 rfl hl (by decide) rfl (fun ls hl => ?_)
  refine lv_iconst (v := (-1 : Int32)) hx hb dX6_sow_27 (by decide) ?_
  refine lv_istore (lv' := [(4, .int (-1 : Int32)), (3, .int x5), (0, .ref b), (1, .int a1), (2, .int a2)]) hx hb dX6_sow_28 hl (by decide) rfl (fun ls hl => ?_)
  refine lv_lconst (v := (0 : Int64)) hx hb dX6_sow_30 (by decide) ?_
  refine lv_lstore (lv' := [(5, .long (0 : Int64)), (4, .int (-1 : Int32)), (3, .int x5), (0, .ref b), (1, .int a1), (2, .int a2)]) hx hb dX6_sow_31 hl (by decide) rfl (fun ls hl => ?_)
  refine lv_aload_n hx hb dX6_sow_33 rfl (lv_at hl 3 rfl) ?_
  replace h := ob h
  obtain ⟨x6, hx6, h⟩ := h
  refine kX6_putsAside S hK hM hS hx6 ⟨Nat.le_of_ble_eq_true rfl, Nat.le_of_ble_eq_true rfl⟩ hl.1 (Nat.le_of_ble_eq_true rfl) dX6_sow_34 (fun H locs hM hS => ?_)
  refine lv_iconst (v := (0 : Int32)) hx hb dX6_sow_37 (by decide) ?_
  refine lv_istore (lv' := [(7, .int (0 : Int32)), (5, .long (0 : Int64)), (4, .int (-1 : Int32)), (3, .int x5), (0, .ref b), (1, .int a1), (2, .int a2)]) hx hb dX6_sow_38 hl (by decide) rfl (fun ls hl => ?_)
  exact wX6_sow_40 S hr hlk hK FU x6 a1 a2 x5 (-1 : Int32) (0 : Int64) (0 : Int32) h _ _ hM hS _ (lv_sub hl [4, 5, 6, 3, 2, 1, 0] rfl)
/-! who(III)I -/
abbrev rmX6_who : Room := { frames := 3, cells := 0, slots := 0, locals := 47 }
def fX6_who_70 (σ : MS) (k36 : Int32 → Int32 → Int32 → Int64 → Int32 → Option (Int32)) (a1 : Int32) (a2 : Int32) (a3 : Int32) (a4 : Int64) (a6 : Int32) : Option (Int32) :=
  k36 a1 a2 a3 a4 (a6 + (1 : Int32))
def fX6_who_36 (σ : MS) : Nat → Int32 → Int32 → Int32 → Int64 → Int32 → Option (Int32)
  | 0, _, _, _, _, _ => none
  | n + 1, a1, a2, a3, a4, a6 =>
    (fX6_personMany σ).bind fun x1 =>
    if x1 ≤ a6 then
      if a4 = (0 : Int64) then
        some (-1 : Int32)
      else
      (fX6_isFree σ a1 a3).bind fun x4 =>
      if x4 = 0 then
        some (0 : Int32)
      else
      (fX6_worthOf σ a1 a2).bind fun x6 =>
      (nzl a4).bind fun d7 =>
      some ((((1000000 : Int64) * ((x6 + (1 : Int32)).toInt64)) / a4).toInt32)
    else
    (fX6_isFree σ a6 a3).bind fun x8 =>
    if x8 = 0 then
      fX6_who_70 σ (fun b1 b2 b3 b4 b6 => fX6_who_36 σ n b1 b2 b3 b4 b6) a1 a2 a3 a4 a6
    else
    (fX6_worthOf σ a6 a2).bind fun x10 =>
    fX6_who_70 σ (fun b1 b2 b3 b4 b6 => fX6_who_36 σ n b1 b2 b3 b4 b6) a1 a2 a3 (a4 + ((x10 + (1 : Int32)).toInt64)) a6
def fX6_who (σ : MS) (a1 : Int32) (a2 : Int32) (a3 : Int32) : Option (Int32) :=
  (fX6_isPerson σ a1).bind fun x1 =>
  if x1 = 0 then
    some (-1 : Int32)
  else
  (fX6_isFilm σ a2).bind fun x3 =>
  if x3 = 0 then
    some (-1 : Int32)
  else
  (fX6_isIn σ a3.toInt64 (0 : Int64) (23 : Int64)).bind fun x5 =>
  if x5 = 0 then
    some (-1 : Int32)
  else
  fX6_who_36 σ FU a1 a2 a3 (0 : Int64) (0 : Int32)
set_option maxHeartbeats 4000000 in
theorem wX6_who_70 {p : Program} {l : Launch} {e : Env} {s : State} {m : MethodId} {args : Array Value} {below : List Frame} {meth : Method} {c : Code} {G : mG} {b : Nat} {σ : MS} (S : CallFix p m c cX6_who 7 s args lw_all RX6) (hr : meth.sig.returnType = some .int) (hlk : meth.locks = false) (hK : mK G s) {x : Int32} {k36 : Int32 → Int32 → Int32 → Int64 → Int32 → Option (Int32)} (hk36 : ∀ a1 a2 a3 a4 a6, k36 a1 a2 a3 a4 a6 = some x → mGo p l e rmX6_who s m args below meth c G b (MQ below (mQi G b (σ, x)) args s 0 0 (mB b)) 7 36 [(0, .ref b), (1, .int a1), (2, .int a2), (3, .int a3), (4, .long a4), (6, .int a6)] [] σ) : ∀ (a1 : Int32) (a2 : Int32) (a3 : Int32) (a4 : Int64) (a6 : Int32), fX6_who_70 σ k36 a1 a2 a3 a4 a6 = some x → mGo p l e rmX6_who s m args below meth c G b (MQ below (mQi G b (σ, x)) args s 0 0 (mB b)) 7 70 [(0, .ref b), (1, .int a1), (2, .int a2), (3, .int a3), (4, .long a4), (6, .int a6)] [] σ := by
  obtain ⟨hx, hb, hml, hown, hts⟩ := id S
  intro a1 a2 a3 a4 a6 h H locs hM hS ls hl
  unfold fX6_who_70 at h
  refine lv_iinc (v := (a6 + (1 : Int32))) (lv' := [(6, .int (a6 + (1 : Int32))), (0, .ref b), (1, .int a1), (2, .int a2), (3, .int a3), (4, .long a4)]) hx hb dX6_who_70 hl (k := 5) rfl rfl (by decide) rfl (fun ls hl => ?_)
  refine lv_goto (tgt := 36) hx hb dX6_who_73 (by decide) ?_
  exact hk36 a1 a2 a3 a4 (a6 + (1 : Int32)) h _ _ hM hS _ (lv_sub hl [1, 2, 3, 4, 5, 0] rfl)
set_option maxHeartbeats 4000000 in
theorem wX6_who_36 {p : Program} {l : Launch} {e : Env} {s : State} {m : MethodId} {args : Array Value} {below : List Frame} {meth : Method} {c : Code} {G : mG} {b : Nat} {σ : MS} (S : CallFix p m c cX6_who 7 s args lw_all RX6) (hr : meth.sig.returnType = some .int) (hlk : meth.locks = false) (hK : mK G s) {x : Int32} : ∀ (n : Nat) (a1 : Int32) (a2 : Int32) (a3 : Int32) (a4 : Int64) (a6 : Int32), fX6_who_36 σ n a1 a2 a3 a4 a6 = some x → mGo p l e rmX6_who s m args below meth c G b (MQ below (mQi G b (σ, x)) args s 0 0 (mB b)) 7 36 [(0, .ref b), (1, .int a1), (2, .int a2), (3, .int a3), (4, .long a4), (6, .int a6)] [] σ := by
  obtain ⟨hx, hb, hml, hown, hts⟩ := id S
  intro n
  induction n with
  | zero => intro a1 a2 a3 a4 a6 h; cases h
  | succ n ih =>
    intro a1 a2 a3 a4 a6 h H locs hM hS ls hl
    rw [fX6_who_36] at h
    refine lv_iload hx hb dX6_who_36 (lv_at hl 5 rfl) ?_
    refine lv_aload_n hx hb dX6_who_38 rfl (lv_at hl 0 rfl) ?_
    replace h := ob h
    obtain ⟨x1, hx1, h⟩ := h
    refine kX6_personMany S hK hM hS hx1 ⟨Nat.le_of_ble_eq_true rfl, Nat.le_of_ble_eq_true rfl⟩ hl.1 (Nat.le_of_ble_eq_true rfl) dX6_who_39 (fun H locs hM hS => ?_)
    refine lv_icmp_ge (tgt := 76) hx hb dX6_who_42 (by decide) (fun c2 => ?_) (fun c2 => ?_)
    rotate_left 1
    · replace h := ie c2 h
      refine lv_aload_n hx hb dX6_who_45 rfl (lv_at hl 0 rfl) ?_
      refine lv_iload hx hb dX6_who_46 (lv_at hl 5 rfl) ?_
      refine lv_iload_n hx hb dX6_who_48 rfl (lv_at hl 3 rfl) ?_
      replace h := ob h
      obtain ⟨x8, hx8, h⟩ := h
      refine kX6_isFree S hK hM hS hx8 ⟨Nat.le_of_ble_eq_true rfl, Nat.le_of_ble_eq_true rfl⟩ hl.1 (Nat.le_of_ble_eq_true rfl) dX6_who_49 (fun H locs hM hS => ?_)
      refine lv_if_eq (tgt := 70) hx hb dX6_who_52 (by decide) (fun c9 => ?_) (fun c9 => ?_)
      · replace h := it c9 h
        exact wX6_who_70 S hr hlk hK ih a1 a2 a3 a4 a6 h _ _ hM hS _ (lv_sub hl [0, 1, 2, 3, 4, 5] rfl)
      replace h := ie c9 h
      refine lv_lload hx hb dX6_who_55 (lv_at hl 4 rfl) ?_
      refine lv_aload_n hx hb dX6_who_57 rfl (lv_at hl 0 rfl) ?_
      refine lv_iload hx hb dX6_who_58 (lv_at hl 5 rfl) ?_
      refine lv_iload_n hx hb dX6_who_60 rfl (lv_at hl 2 rfl) ?_
      replace h := ob h
      obtain ⟨x10, hx10, h⟩ := h
      refine kX6_worthOf S hK hM hS hx10 ⟨Nat.le_of_ble_eq_true rfl, Nat.le_of_ble_eq_true rfl⟩ hl.1 (Nat.le_of_ble_eq_true rfl) dX6_who_61 (fun H locs hM hS => ?_)
      refine lv_iconst (v := (1 : Int32)) hx hb dX6_who_64 (by decide) ?_
      refine lv_iadd hx hb dX6_who_65 ?_
      refine lv_i2l (v := (x10 + (1 : Int32)).toInt64) hx hb dX6_who_66 rfl ?_
      refine lv_ladd hx hb dX6_who_67 ?_
      refine lv_lstore (lv' := [(4, .long (a4 + ((x10 + (1 : Int32)).toInt64))), (0, .ref b), (1, .int a1), (2, .int a2), (3, .int a3), (6, .int a6)]) hx hb dX6_who_68 hl (by decide) rfl (fun ls hl => ?_)
      exact wX6_who_70 S hr hlk hK ih a1 a2 a3 (a4 + ((x10 + (1 : Int32)).toInt64)) a6 h _ _ hM hS _ (lv_sub hl [1, 2, 3, 4, 0, 5] rfl)
    replace h := it c2 h
    refine lv_lload hx hb dX6_who_76 (lv_at hl 4 rfl) ?_
    refine lv_lconst (v := (0 : Int64)) hx hb dX6_who_78 (by decide) ?_
    refine m_lcmp S dX6_who_79 ?_
    refine lv_if_ne (tgt := 85) hx hb dX6_who_80 (by decide) (fun c3 => ?_) (fun c3 => ?_)
    rotate_left 1
    · replace h := it ((lg_cmp_eq _ _).mp c3) h
      refine lv_iconst (v := (-1 : Int32)) hx hb dX6_who_83 (by decide) ?_
      exact m_iret' S hr hlk rfl hM hS h dX6_who_84
    replace h := ie (fun q => c3 ((lg_cmp_eq _ _).mpr q)) h
    refine lv_aload_n hx hb dX6_who_85 rfl (lv_at hl 0 rfl) ?_
    refine lv_iload_n hx hb dX6_who_86 rfl (lv_at hl 1 rfl) ?_
    refine lv_iload_n hx hb dX6_who_87 rfl (lv_at hl 3 rfl) ?_
    replace h := ob h
    obtain ⟨x4, hx4, h⟩ := h
    refine kX6_isFree S hK hM hS hx4 ⟨Nat.le_of_ble_eq_true rfl, Nat.le_of_ble_eq_true rfl⟩ hl.1 (Nat.le_of_ble_eq_true rfl) dX6_who_88 (fun H locs hM hS => ?_)
    refine lv_if_eq (tgt := 114) hx hb dX6_who_91 (by decide) (fun c5 => ?_) (fun c5 => ?_)
    · replace h := it c5 h
      refine lv_iconst (v := (0 : Int32)) hx hb dX6_who_114 (by decide) ?_
      exact m_iret' S hr hlk rfl hM hS h dX6_who_115
    replace h := ie c5 h
    refine lv_ldc2 hx hb hown (hts _ q2381) dX6_who_94 ?_
    refine lv_aload_n hx hb dX6_who_97 rfl (lv_at hl 0 rfl) ?_
    refine lv_iload_n hx hb dX6_who_98 rfl (lv_at hl 1 rfl) ?_
    refine lv_iload_n hx hb dX6_who_99 rfl (lv_at hl 2 rfl) ?_
    replace h := ob h
    obtain ⟨x6, hx6, h⟩ := h
    refine kX6_worthOf S hK hM hS hx6 ⟨Nat.le_of_ble_eq_true rfl, Nat.le_of_ble_eq_true rfl⟩ hl.1 (Nat.le_of_ble_eq_true rfl) dX6_who_100 (fun H locs hM hS => ?_)
    refine lv_iconst (v := (1 : Int32)) hx hb dX6_who_103 (by decide) ?_
    refine lv_iadd hx hb dX6_who_104 ?_
    refine lv_i2l (v := (x6 + (1 : Int32)).toInt64) hx hb dX6_who_105 rfl ?_
    refine lv_lmul hx hb dX6_who_106 ?_
    refine lv_lload hx hb dX6_who_107 (lv_at hl 4 rfl) ?_
    replace h := ob h
    obtain ⟨d7, hd7, h⟩ := h
    obtain ⟨hd7, -⟩ := nzl_e hd7
    refine lv_ldiv hx hb dX6_who_109 hd7 ?_
    refine lv_l2i (v := (((1000000 : Int64) * ((x6 + (1 : Int32)).toInt64)) / a4).toInt32) hx hb dX6_who_110 rfl ?_
    refine lv_goto (tgt := 115) hx hb dX6_who_111 (by decide) ?_
    exact m_iret' S hr hlk rfl hM hS h dX6_who_115
set_option maxHeartbeats 4000000 in
theorem metX6_who {l : Launch} {G : mG} {b : Nat} {σ : MS} {a1 : Int32} {a2 : Int32} {a3 : Int32} {x : Int32} (h : fX6_who σ a1 a2 a3 = some x) : Met l yX6_who (ws_ yX6_who cX6_who 7 (some .int)) rmX6_who (mP G b σ [.ref b, .int a1, .int a2, .int a3]) (mQi G b (σ, x)) 0 0 (mB b) := by
  refine m_entry (by decide) rfl (Nat.le_of_ble_eq_true rfl) ?_
  intro p e s m below meth c S hr hlk hK hM hS ls hl
  replace hl : lv_has ls 7 [(0, .ref b), (1, .int a1), (2, .int a2), (3, .int a3)] := hl
  obtain ⟨hx, hb, hml, hown, hts⟩ := id S
  unfold fX6_who at h
  refine lv_aload_n hx hb dX6_who_0 rfl (lv_at hl 0 rfl) ?_
  refine lv_iload_n hx hb dX6_who_1 rfl (lv_at hl 1 rfl) ?_
  replace h := ob h
  obtain ⟨x1, hx1, h⟩ := h
  refine kX6_isPerson S hK hM hS hx1 ⟨Nat.le_of_ble_eq_true rfl, Nat.le_of_ble_eq_true rfl⟩ hl.1 (Nat.le_of_ble_eq_true rfl) dX6_who_2 (fun H locs hM hS => ?_)
  refine lv_if_eq (tgt := 28) hx hb dX6_who_5 (by decide) (fun c2 => ?_) (fun c2 => ?_)
  · replace h := it c2 h
    refine lv_iconst (v := (-1 : Int32)) hx hb dX6_who_28 (by decide) ?_
    exact m_iret' S hr hlk rfl hM hS h dX6_who_29
  replace h := ie c2 h
  refine lv_aload_n hx hb dX6_who_8 rfl (lv_at hl 0 rfl) ?_
  refine lv_iload_n hx hb dX6_who_9 rfl (lv_at hl 2 rfl) ?_
  replace h := ob h
  obtain ⟨x3, hx3, h⟩ := h
  refine kX6_isFilm S hK hM hS hx3 ⟨Nat.le_of_ble_eq_true rfl, Nat.le_of_ble_eq_true rfl⟩ hl.1 (Nat.le_of_ble_eq_true rfl) dX6_who_10 (fun H locs hM hS => ?_)
  refine lv_if_eq (tgt := 28) hx hb dX6_who_13 (by decide) (fun c4 => ?_) (fun c4 => ?_)
  · replace h := it c4 h
    refine lv_iconst (v := (-1 : Int32)) hx hb dX6_who_28 (by decide) ?_
    exact m_iret' S hr hlk rfl hM hS h dX6_who_29
  replace h := ie c4 h
  refine lv_iload_n hx hb dX6_who_16 rfl (lv_at hl 3 rfl) ?_
  refine lv_i2l (v := a3.toInt64) hx hb dX6_who_17 rfl ?_
  refine lv_lconst (v := (0 : Int64)) hx hb dX6_who_18 (by decide) ?_
  refine lv_ldc2 hx hb hown (hts _ q2483) dX6_who_19 ?_
  replace h := ob h
  obtain ⟨x5, hx5, h⟩ := h
  refine kX6_isIn S hK hM hS hx5 ⟨Nat.le_of_ble_eq_true rfl, Nat.le_of_ble_eq_true rfl⟩ hl.1 (Nat.le_of_ble_eq_true rfl) dX6_who_22 (fun H locs hM hS => ?_)
  refine lv_if_ne (tgt := 30) hx hb dX6_who_25 (by decide) (fun c6 => ?_) (fun c6 => ?_)
  rotate_left 1
  · replace h := it c6 h
    refine lv_iconst (v := (-1 : Int32)) hx hb dX6_who_28 (by decide) ?_
    exact m_iret' S hr hlk rfl hM hS h dX6_who_29
  replace h := ie c6 h
  refine lv_lconst (v := (0 : Int64)) hx hb dX6_who_30 (by decide) ?_
  refine lv_lstore (lv' := [(4, .long (0 : Int64)), (0, .ref b), (1, .int a1), (2, .int a2), (3, .int a3)]) hx hb dX6_who_31 hl (by decide) rfl (fun ls hl => ?_)
  refine lv_iconst (v := (0 : Int32)) hx hb dX6_who_33 (by decide) ?_
  refine lv_istore (lv' := [(6, .int (0 : Int32)), (4, .long (0 : Int64)), (0, .ref b), (1, .int a1), (2, .int a2), (3, .int a3)]) hx hb dX6_who_34 hl (by decide) rfl (fun ls hl => ?_)
  exact wX6_who_36 S hr hlk hK FU a1 a2 a3 (0 : Int64) (0 : Int32) h _ _ hM hS _ (lv_sub hl [2, 3, 4, 5, 1, 0] rfl)
/-! firstOf(I)I -/
abbrev rmX6_firstOf : Room := { frames := 3, cells := 0, slots := 0, locals := 46 }
def fX6_firstOf_29 (σ : MS) (k4 : Int32 → Int32 → Int32 → Option (Int32)) (a1 : Int32) (a2 : Int32) (a3 : Int32) : Option (Int32) :=
  k4 a1 a2 (a3 + (1 : Int32))
def fX6_firstOf_4 (σ : MS) : Nat → Int32 → Int32 → Int32 → Option (Int32)
  | 0, _, _, _ => none
  | n + 1, a1, a2, a3 =>
    (fX6_filmMany σ).bind fun x1 =>
    if x1 ≤ a3 then
      some a2
    else
    (fX6_worthOf σ a1 a3).bind fun x3 =>
    (fX6_worthOf σ a1 a2).bind fun x4 =>
    if x3 ≤ x4 then
      fX6_firstOf_29 σ (fun b1 b2 b3 => fX6_firstOf_4 σ n b1 b2 b3) a1 a2 a3
    else
    fX6_firstOf_29 σ (fun b1 b2 b3 => fX6_firstOf_4 σ n b1 b2 b3) a1 a3 a3
def fX6_firstOf (σ : MS) (a1 : Int32) : Option (Int32) :=
  fX6_firstOf_4 σ FU a1 (0 : Int32) (1 : Int32)
set_option maxHeartbeats 4000000 in
theorem wX6_firstOf_29 {p : Program} {l : Launch} {e : Env} {s : State} {m : MethodId} {args : Array Value} {below : List Frame} {meth : Method} {c : Code} {G : mG} {b : Nat} {σ : MS} (S : CallFix p m c cX6_firstOf 4 s args lw_all RX6) (hr : meth.sig.returnType = some .int) (hlk : meth.locks = false) (hK : mK G s) {x : Int32} {k4 : Int32 → Int32 → Int32 → Option (Int32)} (hk4 : ∀ a1 a2 a3, k4 a1 a2 a3 = some x → mGo p l e rmX6_firstOf s m args below meth c G b (MQ below (mQi G b (σ, x)) args s 0 0 (mB b)) 4 4 [(0, .ref b), (1, .int a1), (2, .int a2), (3, .int a3)] [] σ) : ∀ (a1 : Int32) (a2 : Int32) (a3 : Int32), fX6_firstOf_29 σ k4 a1 a2 a3 = some x → mGo p l e rmX6_firstOf s m args below meth c G b (MQ below (mQi G b (σ, x)) args s 0 0 (mB b)) 4 29 [(0, .ref b), (1, .int a1), (2, .int a2), (3, .int a3)] [] σ := by
  obtain ⟨hx, hb, hml, hown, hts⟩ := id S
  intro a1 a2 a3 h H locs hM hS ls hl
  unfold fX6_firstOf_29 at h
  refine lv_iinc (v := (a3 + (1 : Int32))) (lv' := [(3, .int (a3 + (1 : Int32))), (0, .ref b), (1, .int a1), (2, .int a2)]) hx hb dX6_firstOf_29 hl (k := 3) rfl rfl (by decide) rfl (fun ls hl => ?_)
  refine lv_goto (tgt := 4) hx hb dX6_firstOf_32 (by decide) ?_
  exact hk4 a1 a2 (a3 + (1 : Int32)) h _ _ hM hS _ (lv_sub hl [1, 2, 3, 0] rfl)
set_option maxHeartbeats 4000000 in
theorem wX6_firstOf_4 {p : Program} {l : Launch} {e : Env} {s : State} {m : MethodId} {args : Array Value} {below : List Frame} {meth : Method} {c : Code} {G : mG} {b : Nat} {σ : MS} (S : CallFix p m c cX6_firstOf 4 s args lw_all RX6) (hr : meth.sig.returnType = some .int) (hlk : meth.locks = false) (hK : mK G s) {x : Int32} : ∀ (n : Nat) (a1 : Int32) (a2 : Int32) (a3 : Int32), fX6_firstOf_4 σ n a1 a2 a3 = some x → mGo p l e rmX6_firstOf s m args below meth c G b (MQ below (mQi G b (σ, x)) args s 0 0 (mB b)) 4 4 [(0, .ref b), (1, .int a1), (2, .int a2), (3, .int a3)] [] σ := by
  obtain ⟨hx, hb, hml, hown, hts⟩ := id S
  intro n
  induction n with
  | zero => intro a1 a2 a3 h; cases h
  | succ n ih =>
    intro a1 a2 a3 h H locs hM hS ls hl
    rw [fX6_firstOf_4] at h
    refine lv_iload_n hx hb dX6_firstOf_4 rfl (lv_at hl 3 rfl) ?_
    refine lv_aload_n hx hb dX6_firstOf_5 rfl (lv_at hl 0 rfl) ?_
    replace h := ob h
    obtain ⟨x1, hx1, h⟩ := h
    refine kX6_filmMany S hK hM hS hx1 ⟨Nat.le_of_ble_eq_true rfl, Nat.le_of_ble_eq_true rfl⟩ hl.1 (Nat.le_of_ble_eq_true rfl) dX6_firstOf_6 (fun H locs hM hS => ?_)
    refine lv_icmp_ge (tgt := 35) hx hb dX6_firstOf_9 (by decide) (fun c2 => ?_) (fun c2 => ?_)
    · replace h := it c2 h
      refine lv_iload_n hx hb dX6_firstOf_35 rfl (lv_at hl 2 rfl) ?_
      exact m_iret' S hr hlk rfl hM hS h dX6_firstOf_36
    replace h := ie c2 h
    refine lv_aload_n hx hb dX6_firstOf_12 rfl (lv_at hl 0 rfl) ?_
    refine lv_iload_n hx hb dX6_firstOf_13 rfl (lv_at hl 1 rfl) ?_
    refine lv_iload_n hx hb dX6_firstOf_14 rfl (lv_at hl 3 rfl) ?_
    replace h := ob h
    obtain ⟨x3, hx3, h⟩ := h
    refine kX6_worthOf S hK hM hS hx3 ⟨Nat.le_of_ble_eq_true rfl, Nat.le_of_ble_eq_true rfl⟩ hl.1 (Nat.le_of_ble_eq_true rfl) dX6_firstOf_15 (fun H locs hM hS => ?_)
    refine lv_aload_n hx hb dX6_firstOf_18 rfl (lv_at hl 0 rfl) ?_
    refine lv_iload_n hx hb dX6_firstOf_19 rfl (lv_at hl 1 rfl) ?_
    refine lv_iload_n hx hb dX6_firstOf_20 rfl (lv_at hl 2 rfl) ?_
    replace h := ob h
    obtain ⟨x4, hx4, h⟩ := h
    refine kX6_worthOf S hK hM hS hx4 ⟨Nat.le_of_ble_eq_true rfl, Nat.le_of_ble_eq_true rfl⟩ hl.1 (Nat.le_of_ble_eq_true rfl) dX6_firstOf_21 (fun H locs hM hS => ?_)
    refine lv_icmp_le (tgt := 29) hx hb dX6_firstOf_24 (by decide) (fun c5 => ?_) (fun c5 => ?_)
    · replace h := it c5 h
      exact wX6_firstOf_29 S hr hlk hK ih a1 a2 a3 h _ _ hM hS _ (lv_sub hl [0, 1, 2, 3] rfl)
    replace h := ie c5 h
    refine lv_iload_n hx hb dX6_firstOf_27 rfl (lv_at hl 3 rfl) ?_
    refine lv_istore_n (lv' := [(2, .int a3), (0, .ref b), (1, .int a1), (3, .int a3)]) hx hb dX6_firstOf_28 rfl hl (by decide) rfl (fun ls hl => ?_)
    exact wX6_firstOf_29 S hr hlk hK ih a1 a3 a3 h _ _ hM hS _ (lv_sub hl [1, 2, 0, 3] rfl)
set_option maxHeartbeats 4000000 in
theorem metX6_firstOf {l : Launch} {G : mG} {b : Nat} {σ : MS} {a1 : Int32} {x : Int32} (h : fX6_firstOf σ a1 = some x) : Met l yX6_firstOf (ws_ yX6_firstOf cX6_firstOf 4 (some .int)) rmX6_firstOf (mP G b σ [.ref b, .int a1]) (mQi G b (σ, x)) 0 0 (mB b) := by
  refine m_entry (by decide) rfl (Nat.le_of_ble_eq_true rfl) ?_
  intro p e s m below meth c S hr hlk hK hM hS ls hl
  replace hl : lv_has ls 4 [(0, .ref b), (1, .int a1)] := hl
  obtain ⟨hx, hb, hml, hown, hts⟩ := id S
  unfold fX6_firstOf at h
  refine lv_iconst (v := (0 : Int32)) hx hb dX6_firstOf_0 (by decide) ?_
  refine lv_istore_n (lv' := [(2, .int (0 : Int32)), (0, .ref b), (1, .int a1)]) hx hb dX6_firstOf_1 rfl hl (by decide) rfl (fun ls hl => ?_)
  refine lv_iconst (v := (1 : Int32)) hx hb dX6_firstOf_2 (by decide) ?_
  refine lv_istore_n (lv' := [(3, .int (1 : Int32)), (2, .int (0 : Int32)), (0, .ref b), (1, .int a1)]) hx hb dX6_firstOf_3 rfl hl (by decide) rfl (fun ls hl => ?_)
  exact wX6_firstOf_4 S hr hlk hK FU a1 (0 : Int32) (1 : Int32) h _ _ hM hS _ (lv_sub hl [2, 3, 1, 0] rfl)
theorem kX6_firstOf {p : Program} {l : Launch} {e : Env} {R : Room} {s : State} {m : MethodId} {args : Array Value} {below : List Frame} {meth : Method} {c : Code} {H H0 : Heap} {locs : List Loc} {Q : State → Prop} {cc : ByteArray} {nL pc : Nat} {ls : Array Slot} {rest : List Value} {G : mG} {b : Nat} {σ : MS} {a1 : Int32} {x : Int32} (S : CallFix p m c cc nL s args lw_all RX6) (hK : mK G s) (hM : MW G b σ H) (hS : va_S (mB b) H0 H locs) (hf : fX6_firstOf σ a1 = some x) (hR : rmX6_firstOf.frames + 1 ≤ R.frames ∧ 8 + (4 + 11) + rmX6_firstOf.locals ≤ R.locals) (hsize : ls.size = nL) (hr : (rest.map fun v => v.category).sum ≤ 8) (hdg : decode cc pc = .ok (.invokevirtual 556, 3)) (kk : ∀ (H1 : Heap) (locs1 : List Loc), MW G b σ H1 → va_S (mB b) H0 H1 locs1 → W p l e R s m args below meth c H1 locs1 0 0 Q (F0 m (pc + 3) ls (.int x :: rest))) : W p l e R s m args below meth c H locs 0 0 Q (F0 m pc ls (.int a1 :: .ref b :: rest)) :=
  m_cVi (As := [.int a1]) S hK hM hS (metX6_firstOf hf) (cwV 1 S.2.2.2.2 (lw_V q2492 q2494 qs148 q179 q2495) rfl rfl rfl (by decide +kernel) hR) ⟨Nat.zero_le _, Nat.zero_le _⟩ rfl hsize rfl hr hdg kk
/-! byRule(III)I -/
abbrev rmX6_byRule : Room := { frames := 4, cells := 0, slots := 0, locals := 69 }
def fX6_byRule_79 (σ : MS) (k12 : Int32 → Int32 → Int32 → Int32 → Int32 → Int32 → Int32 → Option (Int32)) (a1 : Int32) (a2 : Int32) (a3 : Int32) (a4 : Int32) (a5 : Int32) (a6 : Int32) (a7 : Int32) : Option (Int32) :=
  k12 a1 a2 a3 a4 a5 a6 (a7 + (1 : Int32))
def fX6_byRule_66 (σ : MS) (k12 : Int32 → Int32 → Int32 → Int32 → Int32 → Int32 → Int32 → Option (Int32)) (a1 : Int32) (a2 : Int32) (a3 : Int32) (a4 : Int32) (a5 : Int32) (a6 : Int32) (a7 : Int32) : Option (Int32) :=
  (fX6_firstOf σ a7).bind fun x1 =>
  if x1 = a2 then
    fX6_byRule_79 σ k12 a1 a2 a3 a4 a5 (a6 + (1 : Int32)) a7
  else
  fX6_byRule_79 σ k12 a1 a2 a3 a4 a5 a6 a7
def fX6_byRule_62 (σ : MS) (k12 : Int32 → Int32 → Int32 → Int32 → Int32 → Int32 → Int32 → Option (Int32)) (a1 : Int32) (a2 : Int32) (a3 : Int32) (a4 : Int32) (a6 : Int32) (a7 : Int32) (a8 : Int32) : Option (Int32) :=
  fX6_byRule_66 σ k12 a1 a2 a3 a4 a8 a6 a7
def fX6_byRule_12 (σ : MS) : Nat → Int32 → Int32 → Int32 → Int32 → Int32 → Int32 → Int32 → Option (Int32)
  | 0, _, _, _, _, _, _, _ => none
  | n + 1, a1, a2, a3, a4, a5, a6, a7 =>
    (fX6_personMany σ).bind fun x1 =>
    if x1 ≤ a7 then
      if a3 = 0 then
        some a4
      else
      if a3 = (1 : Int32) then
        some a5
      else
      some a6
    else
    if ((a1 >>> (a7 &&& 31)) &&& (1 : Int32)) = 0 then
      fX6_byRule_79 σ (fun b1 b2 b3 b4 b5 b6 b7 => fX6_byRule_12 σ n b1 b2 b3 b4 b5 b6 b7) a1 a2 a3 a4 a5 a6 a7
    else
    (fX6_worthOf σ a7 a2).bind fun x6 =>
    if a5 = (-1 : Int32) then
      fX6_byRule_62 σ (fun b1 b2 b3 b4 b5 b6 b7 => fX6_byRule_12 σ n b1 b2 b3 b4 b5 b6 b7) a1 a2 a3 (a4 + x6) a6 a7 x6
    else
    if a5 ≤ x6 then
      fX6_byRule_66 σ (fun b1 b2 b3 b4 b5 b6 b7 => fX6_byRule_12 σ n b1 b2 b3 b4 b5 b6 b7) a1 a2 a3 (a4 + x6) a5 a6 a7
    else
    fX6_byRule_62 σ (fun b1 b2 b3 b4 b5 b6 b7 => fX6_byRule_12 σ n b1 b2 b3 b4 b5 b6 b7) a1 a2 a3 (a4 + x6) a6 a7 x6
def fX6_byRule (σ : MS) (a1 : Int32) (a2 : Int32) (a3 : Int32) : Option (Int32) :=
  fX6_byRule_12 σ FU a1 a2 a3 (0 : Int32) (-1 : Int32) (0 : Int32) (0 : Int32)
set_option maxHeartbeats 4000000 in
theorem wX6_byRule_79 {p : Program} {l : Launch} {e : Env} {s : State} {m : MethodId} {args : Array Value} {below : List Frame} {meth : Method} {c : Code} {G : mG} {b : Nat} {σ : MS} (S : CallFix p m c cX6_byRule 9 s args lw_all RX6) (hr : meth.sig.returnType = some .int) (hlk : meth.locks = false) (hK : mK G s) {x : Int32} {k12 : Int32 → Int32 → Int32 → Int32 → Int32 → Int32 → Int32 → Option (Int32)} (hk12 : ∀ a1 a2 a3 a4 a5 a6 a7, k12 a1 a2 a3 a4 a5 a6 a7 = some x → mGo p l e rmX6_byRule s m args below meth c G b (MQ below (mQi G b (σ, x)) args s 0 0 (mB b)) 9 12 [(0, .ref b), (1, .int a1), (2, .int a2), (3, .int a3), (4, .int a4), (5, .int a5), (6, .int a6), (7, .int a7)] [] σ) : ∀ (a1 : Int32) (a2 : Int32) (a3 : Int32) (a4 : Int32) (a5 : Int32) (a6 : Int32) (a7 : Int32), fX6_byRule_79 σ k12 a1 a2 a3 a4 a5 a6 a7 = some x → mGo p l e rmX6_byRule s m args below meth c G b (MQ below (mQi G b (σ, x)) args s 0 0 (mB b)) 9 79 [(0, .ref b), (1, .int a1), (2, .int a2), (3, .int a3), (4, .int a4), (5, .int a5), (6, .int a6), (7, .int a7)] [] σ := by
  obtain ⟨hx, hb, hml, hown, hts⟩ := id S
  intro a1 a2 a3 a4 a5 a6 a7 h H locs hM hS ls hl
  unfold fX6_byRule_79 at h
  refine lv_iinc (v := (a7 + (1 : Int32))) (lv' := [(7, .int (a7 + (1 : Int32))), (0, .ref b), (1, .int a1), (2, .int a2), (3, .int a3), (4, .int a4), (5, .int a5), (6, .int a6)]) hx hb dX6_byRule_79 hl (k := 7) rfl rfl (by decide) rfl (fun ls hl => ?_)
  refine lv_goto (tgt := 12) hx hb dX6_byRule_82 (by decide) ?_
  exact hk12 a1 a2 a3 a4 a5 a6 (a7 + (1 : Int32)) h _ _ hM hS _ (lv_sub hl [1, 2, 3, 4, 5, 6, 7, 0] rfl)
set_option maxHeartbeats 4000000 in
theorem wX6_byRule_66 {p : Program} {l : Launch} {e : Env} {s : State} {m : MethodId} {args : Array Value} {below : List Frame} {meth : Method} {c : Code} {G : mG} {b : Nat} {σ : MS} (S : CallFix p m c cX6_byRule 9 s args lw_all RX6) (hr : meth.sig.returnType = some .int) (hlk : meth.locks = false) (hK : mK G s) {x : Int32} {k12 : Int32 → Int32 → Int32 → Int32 → Int32 → Int32 → Int32 → Option (Int32)} (hk12 : ∀ a1 a2 a3 a4 a5 a6 a7, k12 a1 a2 a3 a4 a5 a6 a7 = some x → mGo p l e rmX6_byRule s m args below meth c G b (MQ below (mQi G b (σ, x)) args s 0 0 (mB b)) 9 12 [(0, .ref b), (1, .int a1), (2, .int a2), (3, .int a3), (4, .int a4), (5, .int a5), (6, .int a6), (7, .int a7)] [] σ) : ∀ (a1 : Int32) (a2 : Int32) (a3 : Int32) (a4 : Int32) (a5 : Int32) (a6 : Int32) (a7 : Int32), fX6_byRule_66 σ k12 a1 a2 a3 a4 a5 a6 a7 = some x → mGo p l e rmX6_byRule s m args below meth c G b (MQ below (mQi G b (σ, x)) args s 0 0 (mB b)) 9 66 [(0, .ref b), (1, .int a1), (2, .int a2), (3, .int a3), (4, .int a4), (5, .int a5), (6, .int a6), (7, .int a7)] [] σ := by
  obtain ⟨hx, hb, hml, hown, hts⟩ := id S
  intro a1 a2 a3 a4 a5 a6 a7 h H locs hM hS ls hl
  unfold fX6_byRule_66 at h
  refine lv_aload_n hx hb dX6_byRule_66 rfl (lv_at hl 0 rfl) ?_
  refine lv_iload hx hb dX6_byRule_67 (lv_at hl 7 rfl) ?_
  replace h := ob h
  obtain ⟨x1, hx1, h⟩ := h
  refine kX6_firstOf S hK hM hS hx1 ⟨Nat.le_of_ble_eq_true rfl, Nat.le_of_ble_eq_true rfl⟩ hl.1 (Nat.le_of_ble_eq_true rfl) dX6_byRule_69 (fun H locs hM hS => ?_)
  refine lv_iload_n hx hb dX6_byRule_72 rfl (lv_at hl 2 rfl) ?_
  refine lv_icmp_ne (tgt := 79) hx hb dX6_byRule_73 (by decide) (fun c2 => ?_) (fun c2 => ?_)
  · replace h := ie c2 h
    exact wX6_byRule_79 S hr hlk hK hk12 a1 a2 a3 a4 a5 a6 a7 h _ _ hM hS _ (lv_sub hl [0, 1, 2, 3, 4, 5, 6, 7] rfl)
  replace h := it c2 h
  refine lv_iinc (v := (a6 + (1 : Int32))) (lv' := [(6, .int (a6 + (1 : Int32))), (0, .ref b), (1, .int a1), (2, .int a2), (3, .int a3), (4, .int a4), (5, .int a5), (7, .int a7)]) hx hb dX6_byRule_76 hl (k := 6) rfl rfl (by decide) rfl (fun ls hl => ?_)
  exact wX6_byRule_79 S hr hlk hK hk12 a1 a2 a3 a4 a5 (a6 + (1 : Int32)) a7 h _ _ hM hS _ (lv_sub hl [1, 2, 3, 4, 5, 6, 0, 7] rfl)
set_option maxHeartbeats 4000000 in
theorem wX6_byRule_62 {p : Program} {l : Launch} {e : Env} {s : State} {m : MethodId} {args : Array Value} {below : List Frame} {meth : Method} {c : Code} {G : mG} {b : Nat} {σ : MS} (S : CallFix p m c cX6_byRule 9 s args lw_all RX6) (hr : meth.sig.returnType = some .int) (hlk : meth.locks = false) (hK : mK G s) {x : Int32} {k12 : Int32 → Int32 → Int32 → Int32 → Int32 → Int32 → Int32 → Option (Int32)} (hk12 : ∀ a1 a2 a3 a4 a5 a6 a7, k12 a1 a2 a3 a4 a5 a6 a7 = some x → mGo p l e rmX6_byRule s m args below meth c G b (MQ below (mQi G b (σ, x)) args s 0 0 (mB b)) 9 12 [(0, .ref b), (1, .int a1), (2, .int a2), (3, .int a3), (4, .int a4), (5, .int a5), (6, .int a6), (7, .int a7)] [] σ) : ∀ (a1 : Int32) (a2 : Int32) (a3 : Int32) (a4 : Int32) (a6 : Int32) (a7 : Int32) (a8 : Int32), fX6_byRule_62 σ k12 a1 a2 a3 a4 a6 a7 a8 = some x → mGo p l e rmX6_byRule s m args below meth c G b (MQ below (mQi G b (σ, x)) args s 0 0 (mB b)) 9 62 [(0, .ref b), (1, .int a1), (2, .int a2), (3, .int a3), (4, .int a4), (6, .int a6), (7, .int a7), (8, .int a8)] [] σ := by
  obtain ⟨hx, hb, hml, hown, hts⟩ := id S
  intro a1 a2 a3 a4 a6 a7 a8 h H locs hM hS ls hl
  unfold fX6_byRule_62 at h
  refine lv_iload hx hb dX6_byRule_62 (lv_at hl 7 rfl) ?_
  refine lv_istore (lv' := [(5, .int a8), (0, .ref b), (1, .int a1), (2, .int a2), (3, .int a3), (4, .int a4), (6, .int a6), (7, .int a7), (8, .int a8)]) hx hb dX6_byRule_64 hl (by decide) rfl (fun ls hl => ?_)
  exact wX6_byRule_66 S hr hlk hK hk12 a1 a2 a3 a4 a8 a6 a7 h _ _ hM hS _ (lv_sub hl [1, 2, 3, 4, 5, 0, 6, 7] rfl)
set_option maxHeartbeats 4000000 in
theorem wX6_byRule_12 {p : Program} {l : Launch} {e : Env} {s : State} {m : MethodId} {args : Array Value} {below : List Frame} {meth : Method} {c : Code} {G : mG} {b : Nat} {σ : MS} (S : CallFix p m c cX6_byRule 9 s args lw_all RX6) (hr : meth.sig.returnType = some .int) (hlk : meth.locks = false) (hK : mK G s) {x : Int32} : ∀ (n : Nat) (a1 : Int32) (a2 : Int32) (a3 : Int32) (a4 : Int32) (a5 : Int32) (a6 : Int32) (a7 : Int32), fX6_byRule_12 σ n a1 a2 a3 a4 a5 a6 a7 = some x → mGo p l e rmX6_byRule s m args below meth c G b (MQ below (mQi G b (σ, x)) args s 0 0 (mB b)) 9 12 [(0, .ref b), (1, .int a1), (2, .int a2), (3, .int a3), (4, .int a4), (5, .int a5), (6, .int a6), (7, .int a7)] [] σ := by
  obtain ⟨hx, hb, hml, hown, hts⟩ := id S
  intro n
  induction n with
  | zero => intro a1 a2 a3 a4 a5 a6 a7 h; cases h
  | succ n ih =>
    intro a1 a2 a3 a4 a5 a6 a7 h H locs hM hS ls hl
    rw [fX6_byRule_12] at h
    refine lv_iload hx hb dX6_byRule_12 (lv_at hl 7 rfl) ?_
    refine lv_aload_n hx hb dX6_byRule_14 rfl (lv_at hl 0 rfl) ?_
    replace h := ob h
    obtain ⟨x1, hx1, h⟩ := h
    refine kX6_personMany S hK hM hS hx1 ⟨Nat.le_of_ble_eq_true rfl, Nat.le_of_ble_eq_true rfl⟩ hl.1 (Nat.le_of_ble_eq_true rfl) dX6_byRule_15 (fun H locs hM hS => ?_)
    refine lv_icmp_ge (tgt := 85) hx hb dX6_byRule_18 (by decide) (fun c2 => ?_) (fun c2 => ?_)
    · replace h := it c2 h
      refine lv_iload_n hx hb dX6_byRule_85 rfl (lv_at hl 3 rfl) ?_
      refine lv_if_ne (tgt := 94) hx hb dX6_byRule_86 (by decide) (fun c3 => ?_) (fun c3 => ?_)
      rotate_left 1
      · replace h := it c3 h
        refine lv_iload hx hb dX6_byRule_89 (lv_at hl 4 rfl) ?_
        refine lv_goto (tgt := 106) hx hb dX6_byRule_91 (by decide) ?_
        exact m_iret' S hr hlk rfl hM hS h dX6_byRule_106
      replace h := ie c3 h
      refine lv_iload_n hx hb dX6_byRule_94 rfl (lv_at hl 3 rfl) ?_
      refine lv_iconst (v := (1 : Int32)) hx hb dX6_byRule_95 (by decide) ?_
      refine lv_icmp_ne (tgt := 104) hx hb dX6_byRule_96 (by decide) (fun c4 => ?_) (fun c4 => ?_)
      · replace h := ie c4 h
        refine lv_iload hx hb dX6_byRule_104 (lv_at hl 6 rfl) ?_
        exact m_iret' S hr hlk rfl hM hS h dX6_byRule_106
      replace h := it c4 h
      refine lv_iload hx hb dX6_byRule_99 (lv_at hl 5 rfl) ?_
      refine lv_goto (tgt := 106) hx hb dX6_byRule_101 (by decide) ?_
      exact m_iret' S hr hlk rfl hM hS h dX6_byRule_106
    replace h := ie c2 h
    refine lv_iload_n hx hb dX6_byRule_21 rfl (lv_at hl 1 rfl) ?_
    refine lv_iload hx hb dX6_byRule_22 (lv_at hl 7 rfl) ?_
    refine lv_ishr hx hb dX6_byRule_24 ?_
    refine lv_iconst (v := (1 : Int32)) hx hb dX6_byRule_25 (by decide) ?_
    refine lv_iand hx hb dX6_byRule_26 ?_
    refine lv_if_ne (tgt := 33) hx hb dX6_byRule_27 (by decide) (fun c5 => ?_) (fun c5 => ?_)
    rotate_left 1
    · replace h := it c5 h
      refine lv_goto (tgt := 79) hx hb dX6_byRule_30 (by decide) ?_
      exact wX6_byRule_79 S hr hlk hK ih a1 a2 a3 a4 a5 a6 a7 h _ _ hM hS _ (lv_sub hl [0, 1, 2, 3, 4, 5, 6, 7] rfl)
    replace h := ie c5 h
    refine lv_aload_n hx hb dX6_byRule_33 rfl (lv_at hl 0 rfl) ?_
    refine lv_iload hx hb dX6_byRule_34 (lv_at hl 7 rfl) ?_
    refine lv_iload_n hx hb dX6_byRule_36 rfl (lv_at hl 2 rfl) ?_
    replace h := ob h
    obtain ⟨x6, hx6, h⟩ := h
    refine kX6_worthOf S hK hM hS hx6 ⟨Nat.le_of_ble_eq_true rfl, Nat.le_of_ble_eq_true rfl⟩ hl.1 (Nat.le_of_ble_eq_true rfl) dX6_byRule_37 (fun H locs hM hS => ?_)
    refine lv_istore (lv' := [(8, .int x6), (0, .ref b), (1, .int a1), (2, .int a2), (3, .int a3), (4, .int a4), (5, .int a5), (6, .int a6), (7, .int a7)]) hx hb dX6_byRule_40 hl (by decide) rfl (fun ls hl => ?_)
    refine lv_iload hx hb dX6_byRule_42 (lv_at hl 5 rfl) ?_
    refine lv_iload hx hb dX6_byRule_44 (lv_at hl 0 rfl) ?_
    refine lv_iadd hx hb dX6_byRule_46 ?_
    refine lv_istore (lv' := [(4, .int (a4 + x6)), (8, .int x6), (0, .ref b), (1, .int a1), (2, .int a2), (3, .int a3), (5, .int a5), (6, .int a6), (7, .int a7)]) hx hb dX6_byRule_47 hl (by decide) rfl (fun ls hl => ?_)
    refine lv_iload hx hb dX6_byRule_49 (lv_at hl 6 rfl) ?_
    refine lv_iconst (v := (-1 : Int32)) hx hb dX6_byRule_51 (by decide) ?_
    refine lv_icmp_eq (tgt := 62) hx hb dX6_byRule_52 (by decide) (fun c7 => ?_) (fun c7 => ?_)
    · replace h := it c7 h
      exact wX6_byRule_62 S hr hlk hK ih a1 a2 a3 (a4 + x6) a6 a7 x6 h _ _ hM hS _ (lv_sub hl [2, 3, 4, 5, 0, 7, 8, 1] rfl)
    replace h := ie c7 h
    refine lv_iload hx hb dX6_byRule_55 (lv_at hl 1 rfl) ?_
    refine lv_iload hx hb dX6_byRule_57 (lv_at hl 6 rfl) ?_
    refine lv_icmp_ge (tgt := 66) hx hb dX6_byRule_59 (by decide) (fun c8 => ?_) (fun c8 => ?_)
    · replace h := it c8 h
      exact wX6_byRule_66 S hr hlk hK ih a1 a2 a3 (a4 + x6) a5 a6 a7 h _ _ hM hS _ (lv_sub hl [2, 3, 4, 5, 0, 6, 7, 8] rfl)
    replace h := ie c8 h
    exact wX6_byRule_62 S hr hlk hK ih a1 a2 a3 (a4 + x6) a6 a7 x6 h _ _ hM hS _ (lv_sub hl [2, 3, 4, 5, 0, 7, 8, 1] rfl)
set_option maxHeartbeats 4000000 in
theorem metX6_byRule {l : Launch} {G : mG} {b : Nat} {σ : MS} {a1 : Int32} {a2 : Int32} {a3 : Int32} {x : Int32} (h : fX6_byRule σ a1 a2 a3 = some x) : Met l yX6_byRule (ws_ yX6_byRule cX6_byRule 9 (some .int)) rmX6_byRule (mP G b σ [.ref b, .int a1, .int a2, .int a3]) (mQi G b (σ, x)) 0 0 (mB b) := by
  refine m_entry (by decide) rfl (Nat.le_of_ble_eq_true rfl) ?_
  intro p e s m below meth c S hr hlk hK hM hS ls hl
  replace hl : lv_has ls 9 [(0, .ref b), (1, .int a1), (2, .int a2), (3, .int a3)] := hl
  obtain ⟨hx, hb, hml, hown, hts⟩ := id S
  unfold fX6_byRule at h
  refine lv_iconst (v := (0 : Int32)) hx hb dX6_byRule_0 (by decide) ?_
  refine lv_istore (lv' := [(4, .int (0 : Int32)), (0, .ref b), (1, .int a1), (2, .int a2), (3, .int a3)]) hx hb dX6_byRule_1 hl (by decide) rfl (fun ls hl => ?_)
  refine lv_iconst (v := (-1 : Int32)) hx hb dX6_byRule_3 (by decide) ?_
  refine lv_istore (lv' := [(5, .int (-1 : Int32)), (4, .int (0 : Int32)), (0, .ref b), (1, .int a1), (2, .int a2), (3, .int a3)]) hx hb dX6_byRule_4 hl (by decide) rfl (fun ls hl => ?_)
  refine lv_iconst (v := (0 : Int32)) hx hb dX6_byRule_6 (by decide) ?_
  refine lv_istore (lv' := [(6, .int (0 : Int32)), (5, .int (-1 : Int32)), (4, .int (0 : Int32)), (0, .ref b), (1, .int a1), (2, .int a2), (3, .int a3)]) hx hb dX6_byRule_7 hl (by decide) rfl (fun ls hl => ?_)
  refine lv_iconst (v := (0 : Int32)) hx hb dX6_byRule_9 (by decide) ?_
  refine lv_istore (lv' := [(7, .int (0 : Int32)), (6, .int (0 : Int32)), (5, .int (-1 : Int32)), (4, .int (0 : Int32)), (0, .ref b), (1, .int a1), (2, .int a2), (3, .int a3)]) hx hb dX6_byRule_10 hl (by decide) rfl (fun ls hl => ?_)
  exact wX6_byRule_12 S hr hlk hK FU a1 a2 a3 (0 : Int32) (-1 : Int32) (0 : Int32) (0 : Int32) h _ _ hM hS _ (lv_sub hl [4, 5, 6, 7, 3, 2, 1, 0] rfl)
theorem kX6_byRule {p : Program} {l : Launch} {e : Env} {R : Room} {s : State} {m : MethodId} {args : Array Value} {below : List Frame} {meth : Method} {c : Code} {H H0 : Heap} {locs : List Loc} {Q : State → Prop} {cc : ByteArray} {nL pc : Nat} {ls : Array Slot} {rest : List Value} {G : mG} {b : Nat} {σ : MS} {a1 : Int32} {a2 : Int32} {a3 : Int32} {x : Int32} (S : CallFix p m c cc nL s args lw_all RX6) (hK : mK G s) (hM : MW G b σ H) (hS : va_S (mB b) H0 H locs) (hf : fX6_byRule σ a1 a2 a3 = some x) (hR : rmX6_byRule.frames + 1 ≤ R.frames ∧ 8 + (9 + 11) + rmX6_byRule.locals ≤ R.locals) (hsize : ls.size = nL) (hr : (rest.map fun v => v.category).sum ≤ 8) (hdg : decode cc pc = .ok (.invokevirtual 559, 3)) (kk : ∀ (H1 : Heap) (locs1 : List Loc), MW G b σ H1 → va_S (mB b) H0 H1 locs1 → W p l e R s m args below meth c H1 locs1 0 0 Q (F0 m (pc + 3) ls (.int x :: rest))) : W p l e R s m args below meth c H locs 0 0 Q (F0 m pc ls (.int a3 :: .int a2 :: .int a1 :: .ref b :: rest)) :=
  m_cVi (As := [.int a1, .int a2, .int a3]) S hK hM hS (metX6_byRule hf) (cwV 3 S.2.2.2.2 (lw_V q2488 q2490 qs147 q179 q2491) rfl rfl rfl (by decide +kernel) hR) ⟨Nat.zero_le _, Nat.zero_le _⟩ rfl hsize rfl hr hdg kk
/-! sofa(II)I -/
abbrev rmX6_sofa : Room := { frames := 5, cells := 0, slots := 0, locals := 97 }
def fX6_sofa_72 (σ : MS) (k37 : Int32 → Int32 → Int32 → Int32 → Option (Int32)) (a1 : Int32) (a2 : Int32) (a3 : Int32) (a4 : Int32) : Option (Int32) :=
  k37 a1 a2 a3 (a4 + (1 : Int32))
def fX6_sofa_69 (σ : MS) (k37 : Int32 → Int32 → Int32 → Int32 → Option (Int32)) (a1 : Int32) (a2 : Int32) (a4 : Int32) : Option (Int32) :=
  fX6_sofa_72 σ k37 a1 a2 a4 a4
def fX6_sofa_37 (σ : MS) : Nat → Int32 → Int32 → Int32 → Int32 → Option (Int32)
  | 0, _, _, _, _ => none
  | n + 1, a1, a2, a3, a4 =>
    (fX6_filmMany σ).bind fun x1 =>
    if x1 ≤ a4 then
      some a3
    else
    if a3 = (-1 : Int32) then
      fX6_sofa_69 σ (fun b1 b2 b3 b4 => fX6_sofa_37 σ n b1 b2 b3 b4) a1 a2 a4
    else
    (fX6_byRule σ a1 a4 a2).bind fun x4 =>
    (fX6_byRule σ a1 a3 a2).bind fun x5 =>
    if x4 ≤ x5 then
      fX6_sofa_72 σ (fun b1 b2 b3 b4 => fX6_sofa_37 σ n b1 b2 b3 b4) a1 a2 a3 a4
    else
    fX6_sofa_69 σ (fun b1 b2 b3 b4 => fX6_sofa_37 σ n b1 b2 b3 b4) a1 a2 a4
def fX6_sofa (σ : MS) (a1 : Int32) (a2 : Int32) : Option (Int32) :=
  (fX6_personMany σ).bind fun x1 =>
  (fX6_isIn σ a1.toInt64 (1 : Int64) ((((1 : Int32) <<< (x1 &&& 31)) - (1 : Int32)).toInt64)).bind fun x2 =>
  if x2 = 0 then
    some (-1 : Int32)
  else
  (fX6_isIn σ a2.toInt64 (0 : Int64) (2 : Int64)).bind fun x4 =>
  if x4 = 0 then
    some (-1 : Int32)
  else
  fX6_sofa_37 σ FU a1 a2 (-1 : Int32) (0 : Int32)
set_option maxHeartbeats 4000000 in
theorem wX6_sofa_72 {p : Program} {l : Launch} {e : Env} {s : State} {m : MethodId} {args : Array Value} {below : List Frame} {meth : Method} {c : Code} {G : mG} {b : Nat} {σ : MS} (S : CallFix p m c cX6_sofa 5 s args lw_all RX6) (hr : meth.sig.returnType = some .int) (hlk : meth.locks = false) (hK : mK G s) {x : Int32} {k37 : Int32 → Int32 → Int32 → Int32 → Option (Int32)} (hk37 : ∀ a1 a2 a3 a4, k37 a1 a2 a3 a4 = some x → mGo p l e rmX6_sofa s m args below meth c G b (MQ below (mQi G b (σ, x)) args s 0 0 (mB b)) 5 37 [(0, .ref b), (1, .int a1), (2, .int a2), (3, .int a3), (4, .int a4)] [] σ) : ∀ (a1 : Int32) (a2 : Int32) (a3 : Int32) (a4 : Int32), fX6_sofa_72 σ k37 a1 a2 a3 a4 = some x → mGo p l e rmX6_sofa s m args below meth c G b (MQ below (mQi G b (σ, x)) args s 0 0 (mB b)) 5 72 [(0, .ref b), (1, .int a1), (2, .int a2), (3, .int a3), (4, .int a4)] [] σ := by
  obtain ⟨hx, hb, hml, hown, hts⟩ := id S
  intro a1 a2 a3 a4 h H locs hM hS ls hl
  unfold fX6_sofa_72 at h
  refine lv_iinc (v := (a4 + (1 : Int32))) (lv' := [(4, .int (a4 + (1 : Int32))), (0, .ref b), (1, .int a1), (2, .int a2), (3, .int a3)]) hx hb dX6_sofa_72 hl (k := 4) rfl rfl (by decide) rfl (fun ls hl => ?_)
  refine lv_goto (tgt := 37) hx hb dX6_sofa_75 (by decide) ?_
  exact hk37 a1 a2 a3 (a4 + (1 : Int32)) h _ _ hM hS _ (lv_sub hl [1, 2, 3, 4, 0] rfl)
set_option maxHeartbeats 4000000 in
theorem wX6_sofa_69 {p : Program} {l : Launch} {e : Env} {s : State} {m : MethodId} {args : Array Value} {below : List Frame} {meth : Method} {c : Code} {G : mG} {b : Nat} {σ : MS} (S : CallFix p m c cX6_sofa 5 s args lw_all RX6) (hr : meth.sig.returnType = some .int) (hlk : meth.locks = false) (hK : mK G s) {x : Int32} {k37 : Int32 → Int32 → Int32 → Int32 → Option (Int32)} (hk37 : ∀ a1 a2 a3 a4, k37 a1 a2 a3 a4 = some x → mGo p l e rmX6_sofa s m args below meth c G b (MQ below (mQi G b (σ, x)) args s 0 0 (mB b)) 5 37 [(0, .ref b), (1, .int a1), (2, .int a2), (3, .int a3), (4, .int a4)] [] σ) : ∀ (a1 : Int32) (a2 : Int32) (a4 : Int32), fX6_sofa_69 σ k37 a1 a2 a4 = some x → mGo p l e rmX6_sofa s m args below meth c G b (MQ below (mQi G b (σ, x)) args s 0 0 (mB b)) 5 69 [(0, .ref b), (1, .int a1), (2, .int a2), (4, .int a4)] [] σ := by
  obtain ⟨hx, hb, hml, hown, hts⟩ := id S
  intro a1 a2 a4 h H locs hM hS ls hl
  unfold fX6_sofa_69 at h
  refine lv_iload hx hb dX6_sofa_69 (lv_at hl 3 rfl) ?_
  refine lv_istore_n (lv' := [(3, .int a4), (0, .ref b), (1, .int a1), (2, .int a2), (4, .int a4)]) hx hb dX6_sofa_71 rfl hl (by decide) rfl (fun ls hl => ?_)
  exact wX6_sofa_72 S hr hlk hK hk37 a1 a2 a4 a4 h _ _ hM hS _ (lv_sub hl [1, 2, 3, 0, 4] rfl)
set_option maxHeartbeats 4000000 in
theorem wX6_sofa_37 {p : Program} {l : Launch} {e : Env} {s : State} {m : MethodId} {args : Array Value} {below : List Frame} {meth : Method} {c : Code} {G : mG} {b : Nat} {σ : MS} (S : CallFix p m c cX6_sofa 5 s args lw_all RX6) (hr : meth.sig.returnType = some .int) (hlk : meth.locks = false) (hK : mK G s) {x : Int32} : ∀ (n : Nat) (a1 : Int32) (a2 : Int32) (a3 : Int32) (a4 : Int32), fX6_sofa_37 σ n a1 a2 a3 a4 = some x → mGo p l e rmX6_sofa s m args below meth c G b (MQ below (mQi G b (σ, x)) args s 0 0 (mB b)) 5 37 [(0, .ref b), (1, .int a1), (2, .int a2), (3, .int a3), (4, .int a4)] [] σ := by
  obtain ⟨hx, hb, hml, hown, hts⟩ := id S
  intro n
  induction n with
  | zero => intro a1 a2 a3 a4 h; cases h
  | succ n ih =>
    intro a1 a2 a3 a4 h H locs hM hS ls hl
    rw [fX6_sofa_37] at h
    refine lv_iload hx hb dX6_sofa_37 (lv_at hl 4 rfl) ?_
    refine lv_aload_n hx hb dX6_sofa_39 rfl (lv_at hl 0 rfl) ?_
    replace h := ob h
    obtain ⟨x1, hx1, h⟩ := h
    refine kX6_filmMany S hK hM hS hx1 ⟨Nat.le_of_ble_eq_true rfl, Nat.le_of_ble_eq_true rfl⟩ hl.1 (Nat.le_of_ble_eq_true rfl) dX6_sofa_40 (fun H locs hM hS => ?_)
    refine lv_icmp_ge (tgt := 78) hx hb dX6_sofa_43 (by decide) (fun c2 => ?_) (fun c2 => ?_)
    · replace h := it c2 h
      refine lv_iload_n hx hb dX6_sofa_78 rfl (lv_at hl 3 rfl) ?_
      exact m_iret' S hr hlk rfl hM hS h dX6_sofa_79
    replace h := ie c2 h
    refine lv_iload_n hx hb dX6_sofa_46 rfl (lv_at hl 3 rfl) ?_
    refine lv_iconst (v := (-1 : Int32)) hx hb dX6_sofa_47 (by decide) ?_
    refine lv_icmp_eq (tgt := 69) hx hb dX6_sofa_48 (by decide) (fun c3 => ?_) (fun c3 => ?_)
    · replace h := it c3 h
      exact wX6_sofa_69 S hr hlk hK ih a1 a2 a4 h _ _ hM hS _ (lv_sub hl [0, 1, 2, 4] rfl)
    replace h := ie c3 h
    refine lv_aload_n hx hb dX6_sofa_51 rfl (lv_at hl 0 rfl) ?_
    refine lv_iload_n hx hb dX6_sofa_52 rfl (lv_at hl 1 rfl) ?_
    refine lv_iload hx hb dX6_sofa_53 (lv_at hl 4 rfl) ?_
    refine lv_iload_n hx hb dX6_sofa_55 rfl (lv_at hl 2 rfl) ?_
    replace h := ob h
    obtain ⟨x4, hx4, h⟩ := h
    refine kX6_byRule S hK hM hS hx4 ⟨Nat.le_of_ble_eq_true rfl, Nat.le_of_ble_eq_true rfl⟩ hl.1 (Nat.le_of_ble_eq_true rfl) dX6_sofa_56 (fun H locs hM hS => ?_)
    refine lv_aload_n hx hb dX6_sofa_59 rfl (lv_at hl 0 rfl) ?_
    refine lv_iload_n hx hb dX6_sofa_60 rfl (lv_at hl 1 rfl) ?_
    refine lv_iload_n hx hb dX6_sofa_61 rfl (lv_at hl 3 rfl) ?_
    refine lv_iload_n hx hb dX6_sofa_62 rfl (lv_at hl 2 rfl) ?_
    replace h := ob h
    obtain ⟨x5, hx5, h⟩ := h
    refine kX6_byRule S hK hM hS hx5 ⟨Nat.le_of_ble_eq_true rfl, Nat.le_of_ble_eq_true rfl⟩ hl.1 (Nat.le_of_ble_eq_true rfl) dX6_sofa_63 (fun H locs hM hS => ?_)
    refine lv_icmp_le (tgt := 72) hx hb dX6_sofa_66 (by decide) (fun c6 => ?_) (fun c6 => ?_)
    · replace h := it c6 h
      exact wX6_sofa_72 S hr hlk hK ih a1 a2 a3 a4 h _ _ hM hS _ (lv_sub hl [0, 1, 2, 3, 4] rfl)
    replace h := ie c6 h
    exact wX6_sofa_69 S hr hlk hK ih a1 a2 a4 h _ _ hM hS _ (lv_sub hl [0, 1, 2, 4] rfl)
set_option maxHeartbeats 4000000 in
theorem metX6_sofa {l : Launch} {G : mG} {b : Nat} {σ : MS} {a1 : Int32} {a2 : Int32} {x : Int32} (h : fX6_sofa σ a1 a2 = some x) : Met l yX6_sofa (ws_ yX6_sofa cX6_sofa 5 (some .int)) rmX6_sofa (mP G b σ [.ref b, .int a1, .int a2]) (mQi G b (σ, x)) 0 0 (mB b) := by
  refine m_entry (by decide) rfl (Nat.le_of_ble_eq_true rfl) ?_
  intro p e s m below meth c S hr hlk hK hM hS ls hl
  replace hl : lv_has ls 5 [(0, .ref b), (1, .int a1), (2, .int a2)] := hl
  obtain ⟨hx, hb, hml, hown, hts⟩ := id S
  unfold fX6_sofa at h
  refine lv_iload_n hx hb dX6_sofa_0 rfl (lv_at hl 1 rfl) ?_
  refine lv_i2l (v := a1.toInt64) hx hb dX6_sofa_1 rfl ?_
  refine lv_lconst (v := (1 : Int64)) hx hb dX6_sofa_2 (by decide) ?_
  refine lv_iconst (v := (1 : Int32)) hx hb dX6_sofa_3 (by decide) ?_
  refine lv_aload_n hx hb dX6_sofa_4 rfl (lv_at hl 0 rfl) ?_
  replace h := ob h
  obtain ⟨x1, hx1, h⟩ := h
  refine kX6_personMany S hK hM hS hx1 ⟨Nat.le_of_ble_eq_true rfl, Nat.le_of_ble_eq_true rfl⟩ hl.1 (Nat.le_of_ble_eq_true rfl) dX6_sofa_5 (fun H locs hM hS => ?_)
  refine lv_ishl hx hb dX6_sofa_8 ?_
  refine lv_iconst (v := (1 : Int32)) hx hb dX6_sofa_9 (by decide) ?_
  refine lv_isub hx hb dX6_sofa_10 ?_
  refine lv_i2l (v := (((1 : Int32) <<< (x1 &&& 31)) - (1 : Int32)).toInt64) hx hb dX6_sofa_11 rfl ?_
  replace h := ob h
  obtain ⟨x2, hx2, h⟩ := h
  refine kX6_isIn S hK hM hS hx2 ⟨Nat.le_of_ble_eq_true rfl, Nat.le_of_ble_eq_true rfl⟩ hl.1 (Nat.le_of_ble_eq_true rfl) dX6_sofa_12 (fun H locs hM hS => ?_)
  refine lv_if_eq (tgt := 30) hx hb dX6_sofa_15 (by decide) (fun c3 => ?_) (fun c3 => ?_)
  · replace h := it c3 h
    refine lv_iconst (v := (-1 : Int32)) hx hb dX6_sofa_30 (by decide) ?_
    exact m_iret' S hr hlk rfl hM hS h dX6_sofa_31
  replace h := ie c3 h
  refine lv_iload_n hx hb dX6_sofa_18 rfl (lv_at hl 2 rfl) ?_
  refine lv_i2l (v := a2.toInt64) hx hb dX6_sofa_19 rfl ?_
  refine lv_lconst (v := (0 : Int64)) hx hb dX6_sofa_20 (by decide) ?_
  refine lv_ldc2 hx hb hown (hts _ q2277) dX6_sofa_21 ?_
  replace h := ob h
  obtain ⟨x4, hx4, h⟩ := h
  refine kX6_isIn S hK hM hS hx4 ⟨Nat.le_of_ble_eq_true rfl, Nat.le_of_ble_eq_true rfl⟩ hl.1 (Nat.le_of_ble_eq_true rfl) dX6_sofa_24 (fun H locs hM hS => ?_)
  refine lv_if_ne (tgt := 32) hx hb dX6_sofa_27 (by decide) (fun c5 => ?_) (fun c5 => ?_)
  rotate_left 1
  · replace h := it c5 h
    refine lv_iconst (v := (-1 : Int32)) hx hb dX6_sofa_30 (by decide) ?_
    exact m_iret' S hr hlk rfl hM hS h dX6_sofa_31
  replace h := ie c5 h
  refine lv_iconst (v := (-1 : Int32)) hx hb dX6_sofa_32 (by decide) ?_
  refine lv_istore_n (lv' := [(3, .int (-1 : Int32)), (0, .ref b), (1, .int a1), (2, .int a2)]) hx hb dX6_sofa_33 rfl hl (by decide) rfl (fun ls hl => ?_)
  refine lv_iconst (v := (0 : Int32)) hx hb dX6_sofa_34 (by decide) ?_
  refine lv_istore (lv' := [(4, .int (0 : Int32)), (3, .int (-1 : Int32)), (0, .ref b), (1, .int a1), (2, .int a2)]) hx hb dX6_sofa_35 hl (by decide) rfl (fun ls hl => ?_)
  exact wX6_sofa_37 S hr hlk hK FU a1 a2 (-1 : Int32) (0 : Int32) h _ _ hM hS _ (lv_sub hl [2, 3, 4, 1, 0] rfl)
/-! share(I)I -/
abbrev rmX6_share : Room := { frames := 3, cells := 0, slots := 0, locals := 46 }
def fX6_share_78 (σ : MS) (k32 : Int32 → Int32 → Int32 → Int32 → Int32 → Option (Int32)) (a1 : Int32) (a2 : Int32) (a3 : Int32) (a4 : Int32) (a5 : Int32) : Option (Int32) :=
  k32 a1 a2 a3 a4 (a5 + (1 : Int32))
def fX6_share_109 (σ : MS) (t0 : Int32) (t1 : Int32) : Option (Int32) :=
  some (t0 + t1)
def fX6_share_32 (σ : MS) : Nat → Int32 → Int32 → Int32 → Int32 → Int32 → Option (Int32)
  | 0, _, _, _, _, _ => none
  | n + 1, a1, a2, a3, a4, a5 =>
    (fX6_personMany σ).bind fun x1 =>
    if x1 ≤ a5 then
      (aI σ 47 (5 : Int32)).bind fun v3 =>
      (fX6_hoursOf σ a1).bind fun x4 =>
      (nz a2).bind fun d5 =>
      if a1 = a4 then
        fX6_share_109 σ ((v3 * x4) / a2) a3
      else
      fX6_share_109 σ ((v3 * x4) / a2) (0 : Int32)
    else
    (aI σ 47 (5 : Int32)).bind fun v7 =>
    (fX6_hoursOf σ a5).bind fun x8 =>
    (nz a2).bind fun d9 =>
    (fX6_hoursOf σ a5).bind fun x10 =>
    (fX6_hoursOf σ a4).bind fun x11 =>
    if x10 ≤ x11 then
      fX6_share_78 σ (fun b1 b2 b3 b4 b5 => fX6_share_32 σ n b1 b2 b3 b4 b5) a1 a2 (a3 - ((v7 * x8) / a2)) a4 a5
    else
    fX6_share_78 σ (fun b1 b2 b3 b4 b5 => fX6_share_32 σ n b1 b2 b3 b4 b5) a1 a2 (a3 - ((v7 * x8) / a2)) a5 a5
def fX6_share (σ : MS) (a1 : Int32) : Option (Int32) :=
  (fX6_hoursAll σ).bind fun x1 =>
  (fX6_isPerson σ a1).bind fun x2 =>
  if x2 = 0 then
    some (-1 : Int32)
  else
  if x1 = 0 then
    some (-1 : Int32)
  else
  (aI σ 47 (5 : Int32)).bind fun v5 =>
  fX6_share_32 σ FU a1 x1 v5 (0 : Int32) (0 : Int32)
set_option maxHeartbeats 4000000 in
theorem wX6_share_78 {p : Program} {l : Launch} {e : Env} {s : State} {m : MethodId} {args : Array Value} {below : List Frame} {meth : Method} {c : Code} {G : mG} {b : Nat} {σ : MS} (S : CallFix p m c cX6_share 6 s args lw_all RX6) (hr : meth.sig.returnType = some .int) (hlk : meth.locks = false) (hK : mK G s) {x : Int32} {k32 : Int32 → Int32 → Int32 → Int32 → Int32 → Option (Int32)} (hk32 : ∀ a1 a2 a3 a4 a5, k32 a1 a2 a3 a4 a5 = some x → mGo p l e rmX6_share s m args below meth c G b (MQ below (mQi G b (σ, x)) args s 0 0 (mB b)) 6 32 [(0, .ref b), (1, .int a1), (2, .int a2), (3, .int a3), (4, .int a4), (5, .int a5)] [] σ) : ∀ (a1 : Int32) (a2 : Int32) (a3 : Int32) (a4 : Int32) (a5 : Int32), fX6_share_78 σ k32 a1 a2 a3 a4 a5 = some x → mGo p l e rmX6_share s m args below meth c G b (MQ below (mQi G b (σ, x)) args s 0 0 (mB b)) 6 78 [(0, .ref b), (1, .int a1), (2, .int a2), (3, .int a3), (4, .int a4), (5, .int a5)] [] σ := by
  obtain ⟨hx, hb, hml, hown, hts⟩ := id S
  intro a1 a2 a3 a4 a5 h H locs hM hS ls hl
  unfold fX6_share_78 at h
  refine lv_iinc (v := (a5 + (1 : Int32))) (lv' := [(5, .int (a5 + (1 : Int32))), (0, .ref b), (1, .int a1), (2, .int a2), (3, .int a3), (4, .int a4)]) hx hb dX6_share_78 hl (k := 5) rfl rfl (by decide) rfl (fun ls hl => ?_)
  refine lv_goto (tgt := 32) hx hb dX6_share_81 (by decide) ?_
  exact hk32 a1 a2 a3 a4 (a5 + (1 : Int32)) h _ _ hM hS _ (lv_sub hl [1, 2, 3, 4, 5, 0] rfl)
set_option maxHeartbeats 4000000 in
theorem wX6_share_109 {p : Program} {l : Launch} {e : Env} {s : State} {m : MethodId} {args : Array Value} {below : List Frame} {meth : Method} {c : Code} {G : mG} {b : Nat} {σ : MS} (S : CallFix p m c cX6_share 6 s args lw_all RX6) (hr : meth.sig.returnType = some .int) (hlk : meth.locks = false) (hK : mK G s) {x : Int32} : ∀ (t0 : Int32) (t1 : Int32), fX6_share_109 σ t0 t1 = some x → mGo p l e rmX6_share s m args below meth c G b (MQ below (mQi G b (σ, x)) args s 0 0 (mB b)) 6 109 [(0, .ref b)] [.int t1, .int t0] σ := by
  obtain ⟨hx, hb, hml, hown, hts⟩ := id S
  intro t0 t1 h H locs hM hS ls hl
  unfold fX6_share_109 at h
  refine lv_iadd hx hb dX6_share_109 ?_
  exact m_iret' S hr hlk rfl hM hS h dX6_share_110
set_option maxHeartbeats 4000000 in
theorem wX6_share_32 {p : Program} {l : Launch} {e : Env} {s : State} {m : MethodId} {args : Array Value} {below : List Frame} {meth : Method} {c : Code} {G : mG} {b : Nat} {σ : MS} (S : CallFix p m c cX6_share 6 s args lw_all RX6) (hr : meth.sig.returnType = some .int) (hlk : meth.locks = false) (hK : mK G s) {x : Int32} : ∀ (n : Nat) (a1 : Int32) (a2 : Int32) (a3 : Int32) (a4 : Int32) (a5 : Int32), fX6_share_32 σ n a1 a2 a3 a4 a5 = some x → mGo p l e rmX6_share s m args below meth c G b (MQ below (mQi G b (σ, x)) args s 0 0 (mB b)) 6 32 [(0, .ref b), (1, .int a1), (2, .int a2), (3, .int a3), (4, .int a4), (5, .int a5)] [] σ := by
  obtain ⟨hx, hb, hml, hown, hts⟩ := id S
  intro n
  induction n with
  | zero => intro a1 a2 a3 a4 a5 h; cases h
  | succ n ih =>
    intro a1 a2 a3 a4 a5 h H locs hM hS ls hl
    rw [fX6_share_32] at h
    refine lv_iload hx hb dX6_share_32 (lv_at hl 5 rfl) ?_
    refine lv_aload_n hx hb dX6_share_34 rfl (lv_at hl 0 rfl) ?_
    replace h := ob h
    obtain ⟨x1, hx1, h⟩ := h
    refine kX6_personMany S hK hM hS hx1 ⟨Nat.le_of_ble_eq_true rfl, Nat.le_of_ble_eq_true rfl⟩ hl.1 (Nat.le_of_ble_eq_true rfl) dX6_share_35 (fun H locs hM hS => ?_)
    refine lv_icmp_ge (tgt := 84) hx hb dX6_share_38 (by decide) (fun c2 => ?_) (fun c2 => ?_)
    · replace h := it c2 h
      refine lv_aload_n hx hb dX6_share_84 rfl (lv_at hl 0 rfl) ?_
      refine m_get S hK hM 47 (Nat.le_of_ble_eq_true rfl) q1779 (v := .ref (ma b 47)) rfl dX6_share_85 ?_
      refine lv_iconst (v := (5 : Int32)) hx hb dX6_share_88 (by decide) ?_
      replace h := ob h
      obtain ⟨v3, hv3, h⟩ := h
      refine m_iald S hK hM 47 rfl hv3 dX6_share_89 ?_
      refine lv_aload_n hx hb dX6_share_90 rfl (lv_at hl 0 rfl) ?_
      refine lv_iload_n hx hb dX6_share_91 rfl (lv_at hl 1 rfl) ?_
      replace h := ob h
      obtain ⟨x4, hx4, h⟩ := h
      refine kX6_hoursOf S hK hM hS hx4 ⟨Nat.le_of_ble_eq_true rfl, Nat.le_of_ble_eq_true rfl⟩ hl.1 (Nat.le_of_ble_eq_true rfl) dX6_share_92 (fun H locs hM hS => ?_)
      refine lv_imul hx hb dX6_share_95 ?_
      refine lv_iload_n hx hb dX6_share_96 rfl (lv_at hl 2 rfl) ?_
      replace h := ob h
      obtain ⟨d5, hd5, h⟩ := h
      obtain ⟨hd5, -⟩ := nz_e hd5
      refine lv_idiv hx hb dX6_share_97 hd5 ?_
      refine lv_iload_n hx hb dX6_share_98 rfl (lv_at hl 1 rfl) ?_
      refine lv_iload hx hb dX6_share_99 (lv_at hl 4 rfl) ?_
      refine lv_icmp_ne (tgt := 108) hx hb dX6_share_101 (by decide) (fun c6 => ?_) (fun c6 => ?_)
      · replace h := ie c6 h
        refine lv_iconst (v := (0 : Int32)) hx hb dX6_share_108 (by decide) ?_
        exact wX6_share_109 S hr hlk hK ((v3 * x4) / a2) (0 : Int32) h _ _ hM hS _ (lv_sub hl [0] rfl)
      replace h := it c6 h
      refine lv_iload_n hx hb dX6_share_104 rfl (lv_at hl 3 rfl) ?_
      refine lv_goto (tgt := 109) hx hb dX6_share_105 (by decide) ?_
      exact wX6_share_109 S hr hlk hK ((v3 * x4) / a2) a3 h _ _ hM hS _ (lv_sub hl [0] rfl)
    replace h := ie c2 h
    refine lv_iload_n hx hb dX6_share_41 rfl (lv_at hl 3 rfl) ?_
    refine lv_aload_n hx hb dX6_share_42 rfl (lv_at hl 0 rfl) ?_
    refine m_get S hK hM 47 (Nat.le_of_ble_eq_true rfl) q1779 (v := .ref (ma b 47)) rfl dX6_share_43 ?_
    refine lv_iconst (v := (5 : Int32)) hx hb dX6_share_46 (by decide) ?_
    replace h := ob h
    obtain ⟨v7, hv7, h⟩ := h
    refine m_iald S hK hM 47 rfl hv7 dX6_share_47 ?_
    refine lv_aload_n hx hb dX6_share_48 rfl (lv_at hl 0 rfl) ?_
    refine lv_iload hx hb dX6_share_49 (lv_at hl 5 rfl) ?_
    replace h := ob h
    obtain ⟨x8, hx8, h⟩ := h
    refine kX6_hoursOf S hK hM hS hx8 ⟨Nat.le_of_ble_eq_true rfl, Nat.le_of_ble_eq_true rfl⟩ hl.1 (Nat.le_of_ble_eq_true rfl) dX6_share_51 (fun H locs hM hS => ?_)
    refine lv_imul hx hb dX6_share_54 ?_
    refine lv_iload_n hx hb dX6_share_55 rfl (lv_at hl 2 rfl) ?_
    replace h := ob h
    obtain ⟨d9, hd9, h⟩ := h
    obtain ⟨hd9, -⟩ := nz_e hd9
    refine lv_idiv hx hb dX6_share_56 hd9 ?_
    refine lv_isub hx hb dX6_share_57 ?_
    refine lv_istore_n (lv' := [(3, .int (a3 - ((v7 * x8) / a2))), (0, .ref b), (1, .int a1), (2, .int a2), (4, .int a4), (5, .int a5)]) hx hb dX6_share_58 rfl hl (by decide) rfl (fun ls hl => ?_)
    refine lv_aload_n hx hb dX6_share_59 rfl (lv_at hl 1 rfl) ?_
    refine lv_iload hx hb dX6_share_60 (lv_at hl 5 rfl) ?_
    replace h := ob h
    obtain ⟨x10, hx10, h⟩ := h
    refine kX6_hoursOf S hK hM hS hx10 ⟨Nat.le_of_ble_eq_true rfl, Nat.le_of_ble_eq_true rfl⟩ hl.1 (Nat.le_of_ble_eq_true rfl) dX6_share_62 (fun H locs hM hS => ?_)
    refine lv_aload_n hx hb dX6_share_65 rfl (lv_at hl 1 rfl) ?_
    refine lv_iload hx hb dX6_share_66 (lv_at hl 4 rfl) ?_
    replace h := ob h
    obtain ⟨x11, hx11, h⟩ := h
    refine kX6_hoursOf S hK hM hS hx11 ⟨Nat.le_of_ble_eq_true rfl, Nat.le_of_ble_eq_true rfl⟩ hl.1 (Nat.le_of_ble_eq_true rfl) dX6_share_68 (fun H locs hM hS => ?_)
    refine lv_icmp_le (tgt := 78) hx hb dX6_share_71 (by decide) (fun c12 => ?_) (fun c12 => ?_)
    · replace h := it c12 h
      exact wX6_share_78 S hr hlk hK ih a1 a2 (a3 - ((v7 * x8) / a2)) a4 a5 h _ _ hM hS _ (lv_sub hl [1, 2, 3, 0, 4, 5] rfl)
    replace h := ie c12 h
    refine lv_iload hx hb dX6_share_74 (lv_at hl 5 rfl) ?_
    refine lv_istore (lv' := [(4, .int a5), (3, .int (a3 - ((v7 * x8) / a2))), (0, .ref b), (1, .int a1), (2, .int a2), (5, .int a5)]) hx hb dX6_share_76 hl (by decide) rfl (fun ls hl => ?_)
    exact wX6_share_78 S hr hlk hK ih a1 a2 (a3 - ((v7 * x8) / a2)) a5 a5 h _ _ hM hS _ (lv_sub hl [2, 3, 4, 1, 0, 5] rfl)
set_option maxHeartbeats 4000000 in
theorem metX6_share {l : Launch} {G : mG} {b : Nat} {σ : MS} {a1 : Int32} {x : Int32} (h : fX6_share σ a1 = some x) : Met l yX6_share (ws_ yX6_share cX6_share 6 (some .int)) rmX6_share (mP G b σ [.ref b, .int a1]) (mQi G b (σ, x)) 0 0 (mB b) := by
  refine m_entry (by decide) rfl (Nat.le_of_ble_eq_true rfl) ?_
  intro p e s m below meth c S hr hlk hK hM hS ls hl
  replace hl : lv_has ls 6 [(0, .ref b), (1, .int a1)] := hl
  obtain ⟨hx, hb, hml, hown, hts⟩ := id S
  unfold fX6_share at h
  refine lv_aload_n hx hb dX6_share_0 rfl (lv_at hl 0 rfl) ?_
  replace h := ob h
  obtain ⟨x1, hx1, h⟩ := h
  refine kX6_hoursAll S hK hM hS hx1 ⟨Nat.le_of_ble_eq_true rfl, Nat.le_of_ble_eq_true rfl⟩ hl.1 (Nat.le_of_ble_eq_true rfl) dX6_share_1 (fun H locs hM hS => ?_)
  refine lv_istore_n (lv' := [(2, .int x1), (0, .ref b), (1, .int a1)]) hx hb dX6_share_4 rfl hl (by decide) rfl (fun ls hl => ?_)
  refine lv_aload_n hx hb dX6_share_5 rfl (lv_at hl 1 rfl) ?_
  refine lv_iload_n hx hb dX6_share_6 rfl (lv_at hl 2 rfl) ?_
  replace h := ob h
  obtain ⟨x2, hx2, h⟩ := h
  refine kX6_isPerson S hK hM hS hx2 ⟨Nat.le_of_ble_eq_true rfl, Nat.le_of_ble_eq_true rfl⟩ hl.1 (Nat.le_of_ble_eq_true rfl) dX6_share_7 (fun H locs hM hS => ?_)
  refine lv_if_eq (tgt := 17) hx hb dX6_share_10 (by decide) (fun c3 => ?_) (fun c3 => ?_)
  · replace h := it c3 h
    refine lv_iconst (v := (-1 : Int32)) hx hb dX6_share_17 (by decide) ?_
    exact m_iret' S hr hlk rfl hM hS h dX6_share_18
  replace h := ie c3 h
  refine lv_iload_n hx hb dX6_share_13 rfl (lv_at hl 0 rfl) ?_
  refine lv_if_ne (tgt := 19) hx hb dX6_share_14 (by decide) (fun c4 => ?_) (fun c4 => ?_)
  rotate_left 1
  · replace h := it c4 h
    refine lv_iconst (v := (-1 : Int32)) hx hb dX6_share_17 (by decide) ?_
    exact m_iret' S hr hlk rfl hM hS h dX6_share_18
  replace h := ie c4 h
  refine lv_aload_n hx hb dX6_share_19 rfl (lv_at hl 1 rfl) ?_
  refine m_get S hK hM 47 (Nat.le_of_ble_eq_true rfl) q1779 (v := .ref (ma b 47)) rfl dX6_share_20 ?_
  refine lv_iconst (v := (5 : Int32)) hx hb dX6_share_23 (by decide) ?_
  replace h := ob h
  obtain ⟨v5, hv5, h⟩ := h
  refine m_iald S hK hM 47 rfl hv5 dX6_share_24 ?_
  refine lv_istore_n (lv' := [(3, .int v5), (2, .int x1), (0, .ref b), (1, .int a1)]) hx hb dX6_share_25 rfl hl (by decide) rfl (fun ls hl => ?_)
  refine lv_iconst (v := (0 : Int32)) hx hb dX6_share_26 (by decide) ?_
  refine lv_istore (lv' := [(4, .int (0 : Int32)), (3, .int v5), (2, .int x1), (0, .ref b), (1, .int a1)]) hx hb dX6_share_27 hl (by decide) rfl (fun ls hl => ?_)
  refine lv_iconst (v := (0 : Int32)) hx hb dX6_share_29 (by decide) ?_
  refine lv_istore (lv' := [(5, .int (0 : Int32)), (4, .int (0 : Int32)), (3, .int v5), (2, .int x1), (0, .ref b), (1, .int a1)]) hx hb dX6_share_30 hl (by decide) rfl (fun ls hl => ?_)
  exact wX6_share_32 S hr hlk hK FU a1 x1 v5 (0 : Int32) (0 : Int32) h _ _ hM hS _ (lv_sub hl [4, 5, 3, 2, 1, 0] rfl)

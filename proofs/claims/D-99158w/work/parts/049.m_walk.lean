set_option maxRecDepth 100000
/-! qKind()I -/
abbrev rmX6_qKind : Room := { frames := 5, cells := 0, slots := 0, locals := 85 }
def fX6_qKind_76 (σ : MS) (t0 : Int32) : Option (MS × Int32) :=
  if t0 = (5 : Int32) then
    (fX6_asks σ 76).bind fun x2 =>
    some (x2, t0)
  else
  some (σ, t0)
def fX6_qKind (σ : MS) : Option (MS × Int32) :=
  (fX6_takes σ 71).bind fun x1 =>
  if x1.2 = 0 then
    (fX6_takes x1.1 72).bind fun x3 =>
    if x3.2 = 0 then
      (fX6_takes x3.1 73).bind fun x5 =>
      if x5.2 = 0 then
        (fX6_takes x5.1 74).bind fun x7 =>
        if x7.2 = 0 then
          (fX6_takes x7.1 75).bind fun x9 =>
          if x9.2 = 0 then
            fX6_qKind_76 x9.1 (5 : Int32)
          else
          fX6_qKind_76 x9.1 (4 : Int32)
        else
        fX6_qKind_76 x7.1 (3 : Int32)
      else
      fX6_qKind_76 x5.1 (2 : Int32)
    else
    fX6_qKind_76 x3.1 (1 : Int32)
  else
  fX6_qKind_76 x1.1 (0 : Int32)
set_option maxHeartbeats 4000000 in
theorem wX6_qKind_76 {p : Program} {l : Launch} {e : Env} {s : State} {m : MethodId} {args : Array Value} {below : List Frame} {meth : Method} {c : Code} {G : mG} {b : Nat} (S : CallFix p m c cX6_qKind 2 s args lw_all RX6) (hr : meth.sig.returnType = some .int) (hlk : meth.locks = false) (hK : mK G s) {x : MS × Int32} : ∀ (σ : MS) (t0 : Int32), fX6_qKind_76 σ t0 = some x → mGo p l e rmX6_qKind s m args below meth c G b (MQ below (mQi G b x) args s 0 0 (mB b)) 2 76 [(0, .ref b)] [.int t0] σ := by
  obtain ⟨hx, hb, hml, hown, hts⟩ := id S
  intro σ t0 h H locs hM hS ls hl
  unfold fX6_qKind_76 at h
  refine lv_istore_n (lv' := [(1, .int t0), (0, .ref b)]) hx hb dX6_qKind_76 rfl hl (by decide) rfl (fun ls hl => ?_)
  refine lv_iload_n hx hb dX6_qKind_77 rfl (lv_at hl 0 rfl) ?_
  refine lv_iconst (v := (5 : Int32)) hx hb dX6_qKind_78 (by decide) ?_
  refine lv_icmp_ne (tgt := 90) hx hb dX6_qKind_79 (by decide) (fun c1 => ?_) (fun c1 => ?_)
  · replace h := ie c1 h
    refine lv_iload_n hx hb dX6_qKind_90 rfl (lv_at hl 0 rfl) ?_
    exact m_iret S hr hlk rfl hM hS h dX6_qKind_91
  replace h := it c1 h
  refine lv_aload_n hx hb dX6_qKind_82 rfl (lv_at hl 1 rfl) ?_
  refine lv_aload_n hx hb dX6_qKind_83 rfl (lv_at hl 1 rfl) ?_
  refine m_get S hK hM 76 (Nat.le_of_ble_eq_true rfl) q1808 (v := .ref (ma b 76)) rfl dX6_qKind_84 ?_
  replace h := ob h
  obtain ⟨x2, hx2, h⟩ := h
  refine kX6_asks S hK hM hS hx2 ⟨Nat.le_of_ble_eq_true rfl, Nat.le_of_ble_eq_true rfl⟩ hl.1 (Nat.le_of_ble_eq_true rfl) dX6_qKind_87 (fun H locs hM hS => ?_)
  refine lv_iload_n hx hb dX6_qKind_90 rfl (lv_at hl 0 rfl) ?_
  exact m_iret S hr hlk rfl hM hS h dX6_qKind_91
set_option maxHeartbeats 4000000 in
theorem metX6_qKind {l : Launch} {G : mG} {b : Nat} {σ : MS} {x : MS × Int32} (h : fX6_qKind σ = some x) : Met l yX6_qKind (ws_ yX6_qKind cX6_qKind 2 (some .int)) rmX6_qKind (mP G b σ [.ref b]) (mQi G b x) 0 0 (mB b) := by
  refine m_entry (by decide) rfl (Nat.le_of_ble_eq_true rfl) ?_
  intro p e s m below meth c S hr hlk hK hM hS ls hl
  replace hl : lv_has ls 2 [(0, .ref b)] := hl
  obtain ⟨hx, hb, hml, hown, hts⟩ := id S
  unfold fX6_qKind at h
  refine lv_aload_n hx hb dX6_qKind_0 rfl (lv_at hl 0 rfl) ?_
  refine lv_aload_n hx hb dX6_qKind_1 rfl (lv_at hl 0 rfl) ?_
  refine m_get S hK hM 71 (Nat.le_of_ble_eq_true rfl) q1803 (v := .ref (ma b 71)) rfl dX6_qKind_2 ?_
  replace h := ob h
  obtain ⟨x1, hx1, h⟩ := h
  refine kX6_takes S hK hM hS hx1 ⟨Nat.le_of_ble_eq_true rfl, Nat.le_of_ble_eq_true rfl⟩ hl.1 (Nat.le_of_ble_eq_true rfl) dX6_qKind_5 (fun H locs hM hS => ?_)
  refine lv_if_eq (tgt := 15) hx hb dX6_qKind_8 (by decide) (fun c2 => ?_) (fun c2 => ?_)
  rotate_left 1
  · replace h := ie c2 h
    refine lv_iconst (v := (0 : Int32)) hx hb dX6_qKind_11 (by decide) ?_
    refine lv_goto (tgt := 76) hx hb dX6_qKind_12 (by decide) ?_
    exact wX6_qKind_76 S hr hlk hK x1.1 (0 : Int32) h _ _ hM hS _ (lv_sub hl [0] rfl)
  replace h := it c2 h
  refine lv_aload_n hx hb dX6_qKind_15 rfl (lv_at hl 0 rfl) ?_
  refine lv_aload_n hx hb dX6_qKind_16 rfl (lv_at hl 0 rfl) ?_
  refine m_get S hK hM 72 (Nat.le_of_ble_eq_true rfl) q1804 (v := .ref (ma b 72)) rfl dX6_qKind_17 ?_
  replace h := ob h
  obtain ⟨x3, hx3, h⟩ := h
  refine kX6_takes S hK hM hS hx3 ⟨Nat.le_of_ble_eq_true rfl, Nat.le_of_ble_eq_true rfl⟩ hl.1 (Nat.le_of_ble_eq_true rfl) dX6_qKind_20 (fun H locs hM hS => ?_)
  refine lv_if_eq (tgt := 30) hx hb dX6_qKind_23 (by decide) (fun c4 => ?_) (fun c4 => ?_)
  rotate_left 1
  · replace h := ie c4 h
    refine lv_iconst (v := (1 : Int32)) hx hb dX6_qKind_26 (by decide) ?_
    refine lv_goto (tgt := 76) hx hb dX6_qKind_27 (by decide) ?_
    exact wX6_qKind_76 S hr hlk hK x3.1 (1 : Int32) h _ _ hM hS _ (lv_sub hl [0] rfl)
  replace h := it c4 h
  refine lv_aload_n hx hb dX6_qKind_30 rfl (lv_at hl 0 rfl) ?_
  refine lv_aload_n hx hb dX6_qKind_31 rfl (lv_at hl 0 rfl) ?_
  refine m_get S hK hM 73 (Nat.le_of_ble_eq_true rfl) q1805 (v := .ref (ma b 73)) rfl dX6_qKind_32 ?_
  replace h := ob h
  obtain ⟨x5, hx5, h⟩ := h
  refine kX6_takes S hK hM hS hx5 ⟨Nat.le_of_ble_eq_true rfl, Nat.le_of_ble_eq_true rfl⟩ hl.1 (Nat.le_of_ble_eq_true rfl) dX6_qKind_35 (fun H locs hM hS => ?_)
  refine lv_if_eq (tgt := 45) hx hb dX6_qKind_38 (by decide) (fun c6 => ?_) (fun c6 => ?_)
  rotate_left 1
  · replace h := ie c6 h
    refine lv_iconst (v := (2 : Int32)) hx hb dX6_qKind_41 (by decide) ?_
    refine lv_goto (tgt := 76) hx hb dX6_qKind_42 (by decide) ?_
    exact wX6_qKind_76 S hr hlk hK x5.1 (2 : Int32) h _ _ hM hS _ (lv_sub hl [0] rfl)
  replace h := it c6 h
  refine lv_aload_n hx hb dX6_qKind_45 rfl (lv_at hl 0 rfl) ?_
  refine lv_aload_n hx hb dX6_qKind_46 rfl (lv_at hl 0 rfl) ?_
  refine m_get S hK hM 74 (Nat.le_of_ble_eq_true rfl) q1806 (v := .ref (ma b 74)) rfl dX6_qKind_47 ?_
  replace h := ob h
  obtain ⟨x7, hx7, h⟩ := h
  refine kX6_takes S hK hM hS hx7 ⟨Nat.le_of_ble_eq_true rfl, Nat.le_of_ble_eq_true rfl⟩ hl.1 (Nat.le_of_ble_eq_true rfl) dX6_qKind_50 (fun H locs hM hS => ?_)
  refine lv_if_eq (tgt := 60) hx hb dX6_qKind_53 (by decide) (fun c8 => ?_) (fun c8 => ?_)
  rotate_left 1
  · replace h := ie c8 h
    refine lv_iconst (v := (3 : Int32)) hx hb dX6_qKind_56 (by decide) ?_
    refine lv_goto (tgt := 76) hx hb dX6_qKind_57 (by decide) ?_
    exact wX6_qKind_76 S hr hlk hK x7.1 (3 : Int32) h _ _ hM hS _ (lv_sub hl [0] rfl)
  replace h := it c8 h
  refine lv_aload_n hx hb dX6_qKind_60 rfl (lv_at hl 0 rfl) ?_
  refine lv_aload_n hx hb dX6_qKind_61 rfl (lv_at hl 0 rfl) ?_
  refine m_get S hK hM 75 (Nat.le_of_ble_eq_true rfl) q1807 (v := .ref (ma b 75)) rfl dX6_qKind_62 ?_
  replace h := ob h
  obtain ⟨x9, hx9, h⟩ := h
  refine kX6_takes S hK hM hS hx9 ⟨Nat.le_of_ble_eq_true rfl, Nat.le_of_ble_eq_true rfl⟩ hl.1 (Nat.le_of_ble_eq_true rfl) dX6_qKind_65 (fun H locs hM hS => ?_)
  refine lv_if_eq (tgt := 75) hx hb dX6_qKind_68 (by decide) (fun c10 => ?_) (fun c10 => ?_)
  · replace h := it c10 h
    refine lv_iconst (v := (5 : Int32)) hx hb dX6_qKind_75 (by decide) ?_
    exact wX6_qKind_76 S hr hlk hK x9.1 (5 : Int32) h _ _ hM hS _ (lv_sub hl [0] rfl)
  replace h := ie c10 h
  refine lv_iconst (v := (4 : Int32)) hx hb dX6_qKind_71 (by decide) ?_
  refine lv_goto (tgt := 76) hx hb dX6_qKind_72 (by decide) ?_
  exact wX6_qKind_76 S hr hlk hK x9.1 (4 : Int32) h _ _ hM hS _ (lv_sub hl [0] rfl)
theorem kX6_qKind {p : Program} {l : Launch} {e : Env} {R : Room} {s : State} {m : MethodId} {args : Array Value} {below : List Frame} {meth : Method} {c : Code} {H H0 : Heap} {locs : List Loc} {Q : State → Prop} {cc : ByteArray} {nL pc : Nat} {ls : Array Slot} {rest : List Value} {G : mG} {b : Nat} {σ : MS} {x : MS × Int32} (S : CallFix p m c cc nL s args lw_all RX6) (hK : mK G s) (hM : MW G b σ H) (hS : va_S (mB b) H0 H locs) (hf : fX6_qKind σ = some x) (hR : rmX6_qKind.frames + 1 ≤ R.frames ∧ 8 + (2 + 11) + rmX6_qKind.locals ≤ R.locals) (hsize : ls.size = nL) (hr : (rest.map fun v => v.category).sum ≤ 8) (hdg : decode cc pc = .ok (.invokevirtual 674, 3)) (kk : ∀ (H1 : Heap) (locs1 : List Loc), MW G b x.1 H1 → va_S (mB b) H0 H1 locs1 → W p l e R s m args below meth c H1 locs1 0 0 Q (F0 m (pc + 3) ls (.int x.2 :: rest))) : W p l e R s m args below meth c H locs 0 0 Q (F0 m pc ls (.ref b :: rest)) :=
  m_cVi (As := []) S hK hM hS (metX6_qKind hf) (cwV 0 S.2.2.2.2 (lw_V q2568 q2570 qs156 q179 q2571) rfl rfl rfl (by decide +kernel) hR) ⟨Nat.zero_le _, Nat.zero_le _⟩ rfl hsize rfl hr hdg kk
/-! qTakes(IJI)V -/
abbrev rmX6_qTakes : Room := { frames := 1, cells := 0, slots := 0, locals := 0 }
def fX6_qTakes_133 (σ : MS) : Option (MS) :=
  some (sI σ 100 (0 : Int32))
def fX6_qTakes_128 (σ : MS) (a2 : Int64) : Option (MS) :=
  fX6_qTakes_133 (sL σ 99 a2)
def fX6_qTakes_90 (σ : MS) (a1 : Int32) (a2 : Int64) : Option (MS) :=
  if a1 ≤ (3 : Int32) then
    fX6_qTakes_133 σ
  else
  if (σ.1 100) = 0 then
    if a1 = (4 : Int32) then
      if a2 ≤ (σ.2.1 99) then
        fX6_qTakes_133 σ
      else
      fX6_qTakes_128 σ a2
    else
    if (σ.2.1 99) ≤ a2 then
      fX6_qTakes_133 σ
    else
    fX6_qTakes_128 σ a2
  else
  fX6_qTakes_128 σ a2
def fX6_qTakes_75 (σ : MS) (a1 : Int32) (a2 : Int64) : Option (MS) :=
  if a1 = (3 : Int32) then
    fX6_qTakes_90 (sL σ 99 ((σ.2.1 99) + a2)) a1 a2
  else
  fX6_qTakes_90 σ a1 a2
def fX6_qTakes_55 (σ : MS) (a1 : Int32) (a2 : Int64) (a5 : Int32) : Option (MS) :=
  if a1 = (2 : Int32) then
    if a5 = 0 then
      fX6_qTakes_75 σ a1 a2
    else
    fX6_qTakes_75 (sL σ 99 ((σ.2.1 99) + (1 : Int64))) a1 a2
  else
  fX6_qTakes_75 σ a1 a2
def fX6_qTakes_48 (σ : MS) (a1 : Int32) (a2 : Int64) (a4 : Int32) (a5 : Int32) : Option (MS) :=
  fX6_qTakes_55 (sL σ 99 a4.toInt64) a1 a2 a5
def fX6_qTakes_38 (σ : MS) (a1 : Int32) (a2 : Int64) (a4 : Int32) (a5 : Int32) : Option (MS) :=
  if a1 = (1 : Int32) then
    if a5 = 0 then
      fX6_qTakes_55 σ a1 a2 a5
    else
    fX6_qTakes_48 σ a1 a2 a4 a5
  else
  fX6_qTakes_55 σ a1 a2 a5
def fX6_qTakes_16 (σ : MS) (a1 : Int32) (a2 : Int64) (a4 : Int32) (t0 : Int32) : Option (MS) :=
  if a1 = 0 then
    if t0 = 0 then
      fX6_qTakes_38 σ a1 a2 a4 t0
    else
    if (σ.2.1 99) = (-1 : Int64) then
      fX6_qTakes_48 σ a1 a2 a4 t0
    else
    fX6_qTakes_38 σ a1 a2 a4 t0
  else
  fX6_qTakes_38 σ a1 a2 a4 t0
def fX6_qTakes_15 (σ : MS) (a1 : Int32) (a2 : Int64) (a4 : Int32) : Option (MS) :=
  fX6_qTakes_16 σ a1 a2 a4 (0 : Int32)
def fX6_qTakes (σ : MS) (a1 : Int32) (a2 : Int64) (a4 : Int32) : Option (MS) :=
  if (3 : Int32) ≤ a1 then
    fX6_qTakes_15 σ a1 a2 a4
  else
  if a2 = (1 : Int64) then
    fX6_qTakes_16 σ a1 a2 a4 (1 : Int32)
  else
  fX6_qTakes_15 σ a1 a2 a4
set_option maxHeartbeats 4000000 in
theorem wX6_qTakes_133 {p : Program} {l : Launch} {e : Env} {s : State} {m : MethodId} {args : Array Value} {below : List Frame} {meth : Method} {c : Code} {G : mG} {b : Nat} (S : CallFix p m c cX6_qTakes 6 s args lw_all RX6) (hr : meth.sig.returnType = none) (hlk : meth.locks = false) (hK : mK G s) {x : MS} : ∀ (σ : MS), fX6_qTakes_133 σ = some x → mGo p l e rmX6_qTakes s m args below meth c G b (MQ below (mQv G b x) args s 0 0 (mB b)) 6 133 [(0, .ref b)] [] σ := by
  obtain ⟨hx, hb, hml, hown, hts⟩ := id S
  intro σ h H locs hM hS ls hl
  unfold fX6_qTakes_133 at h
  refine lv_aload_n hx hb dX6_qTakes_133 rfl (lv_at hl 0 rfl) ?_
  refine lv_iconst (v := (0 : Int32)) hx hb dX6_qTakes_134 (by decide) ?_
  refine m_putI S hK hM hS 100 (Nat.le_of_ble_eq_true rfl) rfl q1832 rfl (ty := .boolean) rfl rfl rfl dX6_qTakes_135 (fun H locs hM hS => ?_)
  exact m_vret S hr hlk hM hS h dX6_qTakes_138
set_option maxHeartbeats 4000000 in
theorem wX6_qTakes_128 {p : Program} {l : Launch} {e : Env} {s : State} {m : MethodId} {args : Array Value} {below : List Frame} {meth : Method} {c : Code} {G : mG} {b : Nat} (S : CallFix p m c cX6_qTakes 6 s args lw_all RX6) (hr : meth.sig.returnType = none) (hlk : meth.locks = false) (hK : mK G s) {x : MS} : ∀ (σ : MS) (a2 : Int64), fX6_qTakes_128 σ a2 = some x → mGo p l e rmX6_qTakes s m args below meth c G b (MQ below (mQv G b x) args s 0 0 (mB b)) 6 128 [(0, .ref b), (2, .long a2)] [] σ := by
  obtain ⟨hx, hb, hml, hown, hts⟩ := id S
  intro σ a2 h H locs hM hS ls hl
  unfold fX6_qTakes_128 at h
  refine lv_aload_n hx hb dX6_qTakes_128 rfl (lv_at hl 0 rfl) ?_
  refine lv_lload_n hx hb dX6_qTakes_129 rfl (lv_at hl 1 rfl) ?_
  refine m_putL S hK hM hS 99 (Nat.le_of_ble_eq_true rfl) rfl q1831 rfl rfl dX6_qTakes_130 (fun H locs hM hS => ?_)
  exact wX6_qTakes_133 S hr hlk hK (sL σ 99 a2) h _ _ hM hS _ (lv_sub hl [0] rfl)
set_option maxHeartbeats 4000000 in
theorem wX6_qTakes_90 {p : Program} {l : Launch} {e : Env} {s : State} {m : MethodId} {args : Array Value} {below : List Frame} {meth : Method} {c : Code} {G : mG} {b : Nat} (S : CallFix p m c cX6_qTakes 6 s args lw_all RX6) (hr : meth.sig.returnType = none) (hlk : meth.locks = false) (hK : mK G s) {x : MS} : ∀ (σ : MS) (a1 : Int32) (a2 : Int64), fX6_qTakes_90 σ a1 a2 = some x → mGo p l e rmX6_qTakes s m args below meth c G b (MQ below (mQv G b x) args s 0 0 (mB b)) 6 90 [(0, .ref b), (1, .int a1), (2, .long a2)] [] σ := by
  obtain ⟨hx, hb, hml, hown, hts⟩ := id S
  intro σ a1 a2 h H locs hM hS ls hl
  unfold fX6_qTakes_90 at h
  refine lv_iload_n hx hb dX6_qTakes_90 rfl (lv_at hl 1 rfl) ?_
  refine lv_iconst (v := (3 : Int32)) hx hb dX6_qTakes_91 (by decide) ?_
  refine lv_icmp_le (tgt := 133) hx hb dX6_qTakes_92 (by decide) (fun c1 => ?_) (fun c1 => ?_)
  · replace h := it c1 h
    exact wX6_qTakes_133 S hr hlk hK σ h _ _ hM hS _ (lv_sub hl [0] rfl)
  replace h := ie c1 h
  refine lv_aload_n hx hb dX6_qTakes_95 rfl (lv_at hl 0 rfl) ?_
  refine m_get S hK hM 100 (Nat.le_of_ble_eq_true rfl) q1832 (v := .int (σ.1 100)) rfl dX6_qTakes_96 ?_
  refine lv_if_ne (tgt := 128) hx hb dX6_qTakes_99 (by decide) (fun c2 => ?_) (fun c2 => ?_)
  · replace h := ie c2 h
    exact wX6_qTakes_128 S hr hlk hK σ a2 h _ _ hM hS _ (lv_sub hl [0, 2] rfl)
  replace h := it c2 h
  refine lv_iload_n hx hb dX6_qTakes_102 rfl (lv_at hl 1 rfl) ?_
  refine lv_iconst (v := (4 : Int32)) hx hb dX6_qTakes_103 (by decide) ?_
  refine lv_icmp_ne (tgt := 119) hx hb dX6_qTakes_104 (by decide) (fun c3 => ?_) (fun c3 => ?_)
  · replace h := ie c3 h
    refine lv_lload_n hx hb dX6_qTakes_119 rfl (lv_at hl 2 rfl) ?_
    refine lv_aload_n hx hb dX6_qTakes_120 rfl (lv_at hl 0 rfl) ?_
    refine m_get S hK hM 99 (Nat.le_of_ble_eq_true rfl) q1831 (v := .long (σ.2.1 99)) rfl dX6_qTakes_121 ?_
    refine m_lcmp S dX6_qTakes_124 ?_
    refine lv_if_ge (tgt := 133) hx hb dX6_qTakes_125 (by decide) (fun c4 => ?_) (fun c4 => ?_)
    · replace h := it ((lg_cmp_ge _ _).mp c4) h
      exact wX6_qTakes_133 S hr hlk hK σ h _ _ hM hS _ (lv_sub hl [0] rfl)
    replace h := ie (fun q => c4 ((lg_cmp_ge _ _).mpr q)) h
    exact wX6_qTakes_128 S hr hlk hK σ a2 h _ _ hM hS _ (lv_sub hl [0, 2] rfl)
  replace h := it c3 h
  refine lv_lload_n hx hb dX6_qTakes_107 rfl (lv_at hl 2 rfl) ?_
  refine lv_aload_n hx hb dX6_qTakes_108 rfl (lv_at hl 0 rfl) ?_
  refine m_get S hK hM 99 (Nat.le_of_ble_eq_true rfl) q1831 (v := .long (σ.2.1 99)) rfl dX6_qTakes_109 ?_
  refine m_lcmp S dX6_qTakes_112 ?_
  refine lv_if_le (tgt := 133) hx hb dX6_qTakes_113 (by decide) (fun c5 => ?_) (fun c5 => ?_)
  · replace h := it ((lg_cmp_le _ _).mp c5) h
    exact wX6_qTakes_133 S hr hlk hK σ h _ _ hM hS _ (lv_sub hl [0] rfl)
  replace h := ie (fun q => c5 ((lg_cmp_le _ _).mpr q)) h
  refine lv_goto (tgt := 128) hx hb dX6_qTakes_116 (by decide) ?_
  exact wX6_qTakes_128 S hr hlk hK σ a2 h _ _ hM hS _ (lv_sub hl [0, 2] rfl)
set_option maxHeartbeats 4000000 in
theorem wX6_qTakes_75 {p : Program} {l : Launch} {e : Env} {s : State} {m : MethodId} {args : Array Value} {below : List Frame} {meth : Method} {c : Code} {G : mG} {b : Nat} (S : CallFix p m c cX6_qTakes 6 s args lw_all RX6) (hr : meth.sig.returnType = none) (hlk : meth.locks = false) (hK : mK G s) {x : MS} : ∀ (σ : MS) (a1 : Int32) (a2 : Int64), fX6_qTakes_75 σ a1 a2 = some x → mGo p l e rmX6_qTakes s m args below meth c G b (MQ below (mQv G b x) args s 0 0 (mB b)) 6 75 [(0, .ref b), (1, .int a1), (2, .long a2)] [] σ := by
  obtain ⟨hx, hb, hml, hown, hts⟩ := id S
  intro σ a1 a2 h H locs hM hS ls hl
  unfold fX6_qTakes_75 at h
  refine lv_iload_n hx hb dX6_qTakes_75 rfl (lv_at hl 1 rfl) ?_
  refine lv_iconst (v := (3 : Int32)) hx hb dX6_qTakes_76 (by decide) ?_
  refine lv_icmp_ne (tgt := 90) hx hb dX6_qTakes_77 (by decide) (fun c1 => ?_) (fun c1 => ?_)
  · replace h := ie c1 h
    exact wX6_qTakes_90 S hr hlk hK σ a1 a2 h _ _ hM hS _ (lv_sub hl [0, 1, 2] rfl)
  replace h := it c1 h
  refine lv_aload_n hx hb dX6_qTakes_80 rfl (lv_at hl 0 rfl) ?_
  refine lv_dup hx hb dX6_qTakes_81 rfl ?_
  refine m_get S hK hM 99 (Nat.le_of_ble_eq_true rfl) q1831 (v := .long (σ.2.1 99)) rfl dX6_qTakes_82 ?_
  refine lv_lload_n hx hb dX6_qTakes_85 rfl (lv_at hl 2 rfl) ?_
  refine lv_ladd hx hb dX6_qTakes_86 ?_
  refine m_putL S hK hM hS 99 (Nat.le_of_ble_eq_true rfl) rfl q1831 rfl rfl dX6_qTakes_87 (fun H locs hM hS => ?_)
  exact wX6_qTakes_90 S hr hlk hK (sL σ 99 ((σ.2.1 99) + a2)) a1 a2 h _ _ hM hS _ (lv_sub hl [0, 1, 2] rfl)
set_option maxHeartbeats 4000000 in
theorem wX6_qTakes_55 {p : Program} {l : Launch} {e : Env} {s : State} {m : MethodId} {args : Array Value} {below : List Frame} {meth : Method} {c : Code} {G : mG} {b : Nat} (S : CallFix p m c cX6_qTakes 6 s args lw_all RX6) (hr : meth.sig.returnType = none) (hlk : meth.locks = false) (hK : mK G s) {x : MS} : ∀ (σ : MS) (a1 : Int32) (a2 : Int64) (a5 : Int32), fX6_qTakes_55 σ a1 a2 a5 = some x → mGo p l e rmX6_qTakes s m args below meth c G b (MQ below (mQv G b x) args s 0 0 (mB b)) 6 55 [(0, .ref b), (1, .int a1), (2, .long a2), (5, .int a5)] [] σ := by
  obtain ⟨hx, hb, hml, hown, hts⟩ := id S
  intro σ a1 a2 a5 h H locs hM hS ls hl
  unfold fX6_qTakes_55 at h
  refine lv_iload_n hx hb dX6_qTakes_55 rfl (lv_at hl 1 rfl) ?_
  refine lv_iconst (v := (2 : Int32)) hx hb dX6_qTakes_56 (by decide) ?_
  refine lv_icmp_ne (tgt := 75) hx hb dX6_qTakes_57 (by decide) (fun c1 => ?_) (fun c1 => ?_)
  · replace h := ie c1 h
    exact wX6_qTakes_75 S hr hlk hK σ a1 a2 h _ _ hM hS _ (lv_sub hl [0, 1, 2] rfl)
  replace h := it c1 h
  refine lv_iload hx hb dX6_qTakes_60 (lv_at hl 3 rfl) ?_
  refine lv_if_eq (tgt := 75) hx hb dX6_qTakes_62 (by decide) (fun c2 => ?_) (fun c2 => ?_)
  · replace h := it c2 h
    exact wX6_qTakes_75 S hr hlk hK σ a1 a2 h _ _ hM hS _ (lv_sub hl [0, 1, 2] rfl)
  replace h := ie c2 h
  refine lv_aload_n hx hb dX6_qTakes_65 rfl (lv_at hl 0 rfl) ?_
  refine lv_dup hx hb dX6_qTakes_66 rfl ?_
  refine m_get S hK hM 99 (Nat.le_of_ble_eq_true rfl) q1831 (v := .long (σ.2.1 99)) rfl dX6_qTakes_67 ?_
  refine lv_lconst (v := (1 : Int64)) hx hb dX6_qTakes_70 (by decide) ?_
  refine lv_ladd hx hb dX6_qTakes_71 ?_
  refine m_putL S hK hM hS 99 (Nat.le_of_ble_eq_true rfl) rfl q1831 rfl rfl dX6_qTakes_72 (fun H locs hM hS => ?_)
  exact wX6_qTakes_75 S hr hlk hK (sL σ 99 ((σ.2.1 99) + (1 : Int64))) a1 a2 h _ _ hM hS _ (lv_sub hl [0, 1, 2] rfl)
set_option maxHeartbeats 4000000 in
theorem wX6_qTakes_48 {p : Program} {l : Launch} {e : Env} {s : State} {m : MethodId} {args : Array Value} {below : List Frame} {meth : Method} {c : Code} {G : mG} {b : Nat} (S : CallFix p m c cX6_qTakes 6 s args lw_all RX6) (hr : meth.sig.returnType = none) (hlk : meth.locks = false) (hK : mK G s) {x : MS} : ∀ (σ : MS) (a1 : Int32) (a2 : Int64) (a4 : Int32) (a5 : Int32), fX6_qTakes_48 σ a1 a2 a4 a5 = some x → mGo p l e rmX6_qTakes s m args below meth c G b (MQ below (mQv G b x) args s 0 0 (mB b)) 6 48 [(0, .ref b), (1, .int a1), (2, .long a2), (4, .int a4), (5, .int a5)] [] σ := by
  obtain ⟨hx, hb, hml, hown, hts⟩ := id S
  intro σ a1 a2 a4 a5 h H locs hM hS ls hl
  unfold fX6_qTakes_48 at h
  refine lv_aload_n hx hb dX6_qTakes_48 rfl (lv_at hl 0 rfl) ?_
  refine lv_iload hx hb dX6_qTakes_49 (lv_at hl 3 rfl) ?_
  refine lv_i2l (v := a4.toInt64) hx hb dX6_qTakes_51 rfl ?_
  refine m_putL S hK hM hS 99 (Nat.le_of_ble_eq_true rfl) rfl q1831 rfl rfl dX6_qTakes_52 (fun H locs hM hS => ?_)
  exact wX6_qTakes_55 S hr hlk hK (sL σ 99 a4.toInt64) a1 a2 a5 h _ _ hM hS _ (lv_sub hl [0, 1, 2, 4] rfl)
set_option maxHeartbeats 4000000 in
theorem wX6_qTakes_38 {p : Program} {l : Launch} {e : Env} {s : State} {m : MethodId} {args : Array Value} {below : List Frame} {meth : Method} {c : Code} {G : mG} {b : Nat} (S : CallFix p m c cX6_qTakes 6 s args lw_all RX6) (hr : meth.sig.returnType = none) (hlk : meth.locks = false) (hK : mK G s) {x : MS} : ∀ (σ : MS) (a1 : Int32) (a2 : Int64) (a4 : Int32) (a5 : Int32), fX6_qTakes_38 σ a1 a2 a4 a5 = some x → mGo p l e rmX6_qTakes s m args below meth c G b (MQ below (mQv G b x) args s 0 0 (mB b)) 6 38 [(0, .ref b), (1, .int a1), (2, .long a2), (4, .int a4), (5, .int a5)] [] σ := by
  obtain ⟨hx, hb, hml, hown, hts⟩ := id S
  intro σ a1 a2 a4 a5 h H locs hM hS ls hl
  unfold fX6_qTakes_38 at h
  refine lv_iload_n hx hb dX6_qTakes_38 rfl (lv_at hl 1 rfl) ?_
  refine lv_iconst (v := (1 : Int32)) hx hb dX6_qTakes_39 (by decide) ?_
  refine lv_icmp_ne (tgt := 55) hx hb dX6_qTakes_40 (by decide) (fun c1 => ?_) (fun c1 => ?_)
  · replace h := ie c1 h
    exact wX6_qTakes_55 S hr hlk hK σ a1 a2 a5 h _ _ hM hS _ (lv_sub hl [0, 1, 2, 4] rfl)
  replace h := it c1 h
  refine lv_iload hx hb dX6_qTakes_43 (lv_at hl 4 rfl) ?_
  refine lv_if_eq (tgt := 55) hx hb dX6_qTakes_45 (by decide) (fun c2 => ?_) (fun c2 => ?_)
  · replace h := it c2 h
    exact wX6_qTakes_55 S hr hlk hK σ a1 a2 a5 h _ _ hM hS _ (lv_sub hl [0, 1, 2, 4] rfl)
  replace h := ie c2 h
  exact wX6_qTakes_48 S hr hlk hK σ a1 a2 a4 a5 h _ _ hM hS _ (lv_sub hl [0, 1, 2, 3, 4] rfl)
set_option maxHeartbeats 4000000 in
theorem wX6_qTakes_16 {p : Program} {l : Launch} {e : Env} {s : State} {m : MethodId} {args : Array Value} {below : List Frame} {meth : Method} {c : Code} {G : mG} {b : Nat} (S : CallFix p m c cX6_qTakes 6 s args lw_all RX6) (hr : meth.sig.returnType = none) (hlk : meth.locks = false) (hK : mK G s) {x : MS} : ∀ (σ : MS) (a1 : Int32) (a2 : Int64) (a4 : Int32) (t0 : Int32), fX6_qTakes_16 σ a1 a2 a4 t0 = some x → mGo p l e rmX6_qTakes s m args below meth c G b (MQ below (mQv G b x) args s 0 0 (mB b)) 6 16 [(0, .ref b), (1, .int a1), (2, .long a2), (4, .int a4)] [.int t0] σ := by
  obtain ⟨hx, hb, hml, hown, hts⟩ := id S
  intro σ a1 a2 a4 t0 h H locs hM hS ls hl
  unfold fX6_qTakes_16 at h
  refine lv_istore (lv' := [(5, .int t0), (0, .ref b), (1, .int a1), (2, .long a2), (4, .int a4)]) hx hb dX6_qTakes_16 hl (by decide) rfl (fun ls hl => ?_)
  refine lv_iload_n hx hb dX6_qTakes_18 rfl (lv_at hl 2 rfl) ?_
  refine lv_if_ne (tgt := 38) hx hb dX6_qTakes_19 (by decide) (fun c1 => ?_) (fun c1 => ?_)
  · replace h := ie c1 h
    exact wX6_qTakes_38 S hr hlk hK σ a1 a2 a4 t0 h _ _ hM hS _ (lv_sub hl [1, 2, 3, 4, 0] rfl)
  replace h := it c1 h
  refine lv_iload hx hb dX6_qTakes_22 (lv_at hl 0 rfl) ?_
  refine lv_if_eq (tgt := 38) hx hb dX6_qTakes_24 (by decide) (fun c2 => ?_) (fun c2 => ?_)
  · replace h := it c2 h
    exact wX6_qTakes_38 S hr hlk hK σ a1 a2 a4 t0 h _ _ hM hS _ (lv_sub hl [1, 2, 3, 4, 0] rfl)
  replace h := ie c2 h
  refine lv_aload_n hx hb dX6_qTakes_27 rfl (lv_at hl 1 rfl) ?_
  refine m_get S hK hM 99 (Nat.le_of_ble_eq_true rfl) q1831 (v := .long (σ.2.1 99)) rfl dX6_qTakes_28 ?_
  refine lv_ldc2 hx hb hown (hts _ q2572) dX6_qTakes_31 ?_
  refine m_lcmp S dX6_qTakes_34 ?_
  refine lv_if_eq (tgt := 48) hx hb dX6_qTakes_35 (by decide) (fun c3 => ?_) (fun c3 => ?_)
  · replace h := it ((lg_cmp_eq _ _).mp c3) h
    exact wX6_qTakes_48 S hr hlk hK σ a1 a2 a4 t0 h _ _ hM hS _ (lv_sub hl [1, 2, 3, 4, 0] rfl)
  replace h := ie (fun q => c3 ((lg_cmp_eq _ _).mpr q)) h
  exact wX6_qTakes_38 S hr hlk hK σ a1 a2 a4 t0 h _ _ hM hS _ (lv_sub hl [1, 2, 3, 4, 0] rfl)
set_option maxHeartbeats 4000000 in
theorem wX6_qTakes_15 {p : Program} {l : Launch} {e : Env} {s : State} {m : MethodId} {args : Array Value} {below : List Frame} {meth : Method} {c : Code} {G : mG} {b : Nat} (S : CallFix p m c cX6_qTakes 6 s args lw_all RX6) (hr : meth.sig.returnType = none) (hlk : meth.locks = false) (hK : mK G s) {x : MS} : ∀ (σ : MS) (a1 : Int32) (a2 : Int64) (a4 : Int32), fX6_qTakes_15 σ a1 a2 a4 = some x → mGo p l e rmX6_qTakes s m args below meth c G b (MQ below (mQv G b x) args s 0 0 (mB b)) 6 15 [(0, .ref b), (1, .int a1), (2, .long a2), (4, .int a4)] [] σ := by
  obtain ⟨hx, hb, hml, hown, hts⟩ := id S
  intro σ a1 a2 a4 h H locs hM hS ls hl
  unfold fX6_qTakes_15 at h
  refine lv_iconst (v := (0 : Int32)) hx hb dX6_qTakes_15 (by decide) ?_
  exact wX6_qTakes_16 S hr hlk hK σ a1 a2 a4 (0 : Int32) h _ _ hM hS _ (lv_sub hl [0, 1, 2, 3] rfl)
set_option maxHeartbeats 4000000 in
theorem metX6_qTakes {l : Launch} {G : mG} {b : Nat} {σ : MS} {a1 : Int32} {a2 : Int64} {a4 : Int32} {x : MS} (h : fX6_qTakes σ a1 a2 a4 = some x) : Met l yX6_qTakes (ws_ yX6_qTakes cX6_qTakes 6 (none)) rmX6_qTakes (mP G b σ [.ref b, .int a1, .long a2, .int a4]) (mQv G b x) 0 0 (mB b) := by
  refine m_entry (by decide) rfl (Nat.le_of_ble_eq_true rfl) ?_
  intro p e s m below meth c S hr hlk hK hM hS ls hl
  replace hl : lv_has ls 6 [(0, .ref b), (1, .int a1), (2, .long a2), (4, .int a4)] := hl
  obtain ⟨hx, hb, hml, hown, hts⟩ := id S
  unfold fX6_qTakes at h
  refine lv_iload_n hx hb dX6_qTakes_0 rfl (lv_at hl 1 rfl) ?_
  refine lv_iconst (v := (3 : Int32)) hx hb dX6_qTakes_1 (by decide) ?_
  refine lv_icmp_ge (tgt := 15) hx hb dX6_qTakes_2 (by decide) (fun c1 => ?_) (fun c1 => ?_)
  · replace h := it c1 h
    exact wX6_qTakes_15 S hr hlk hK σ a1 a2 a4 h _ _ hM hS _ (lv_sub hl [0, 1, 2, 3] rfl)
  replace h := ie c1 h
  refine lv_lload_n hx hb dX6_qTakes_5 rfl (lv_at hl 2 rfl) ?_
  refine lv_lconst (v := (1 : Int64)) hx hb dX6_qTakes_6 (by decide) ?_
  refine m_lcmp S dX6_qTakes_7 ?_
  refine lv_if_ne (tgt := 15) hx hb dX6_qTakes_8 (by decide) (fun c2 => ?_) (fun c2 => ?_)
  · replace h := ie (fun q => c2 ((lg_cmp_eq _ _).mpr q)) h
    exact wX6_qTakes_15 S hr hlk hK σ a1 a2 a4 h _ _ hM hS _ (lv_sub hl [0, 1, 2, 3] rfl)
  replace h := it ((lg_cmp_eq _ _).mp c2) h
  refine lv_iconst (v := (1 : Int32)) hx hb dX6_qTakes_11 (by decide) ?_
  refine lv_goto (tgt := 16) hx hb dX6_qTakes_12 (by decide) ?_
  exact wX6_qTakes_16 S hr hlk hK σ a1 a2 a4 (1 : Int32) h _ _ hM hS _ (lv_sub hl [0, 1, 2, 3] rfl)
theorem kX6_qTakes {p : Program} {l : Launch} {e : Env} {R : Room} {s : State} {m : MethodId} {args : Array Value} {below : List Frame} {meth : Method} {c : Code} {H H0 : Heap} {locs : List Loc} {Q : State → Prop} {cc : ByteArray} {nL pc : Nat} {ls : Array Slot} {rest : List Value} {G : mG} {b : Nat} {σ : MS} {a1 : Int32} {a2 : Int64} {a4 : Int32} {x : MS} (S : CallFix p m c cc nL s args lw_all RX6) (hK : mK G s) (hM : MW G b σ H) (hS : va_S (mB b) H0 H locs) (hf : fX6_qTakes σ a1 a2 a4 = some x) (hR : rmX6_qTakes.frames + 1 ≤ R.frames ∧ 8 + (6 + 11) + rmX6_qTakes.locals ≤ R.locals) (hsize : ls.size = nL) (hr : (rest.map fun v => v.category).sum ≤ 8) (hdg : decode cc pc = .ok (.invokevirtual 681, 3)) (kk : ∀ (H1 : Heap) (locs1 : List Loc), MW G b x H1 → va_S (mB b) H0 H1 locs1 → W p l e R s m args below meth c H1 locs1 0 0 Q (F0 m (pc + 3) ls (rest))) : W p l e R s m args below meth c H locs 0 0 Q (F0 m pc ls (.int a4 :: .long a2 :: .int a1 :: .ref b :: rest)) :=
  m_cVv (As := [.int a1, .long a2, .int a4]) S hK hM hS (metX6_qTakes hf) (cwV 3 S.2.2.2.2 (lw_V q2581 q2583 qs159 q179 q2584) rfl rfl rfl (by decide +kernel) hR) ⟨Nat.zero_le _, Nat.zero_le _⟩ rfl hsize rfl hr hdg kk
/-! qOf(IJI)J -/
abbrev rmX6_qOf : Room := { frames := 2, cells := 0, slots := 0, locals := 25 }
def fX6_qOf (σ : MS) (a1 : Int32) (a2 : Int64) (a4 : Int32) : Option (Int64) :=
  (fX6_kindMany σ).bind fun x1 =>
  (fX6_isIn σ a2 (0 : Int64) ((x1 - (1 : Int32)).toInt64)).bind fun x2 =>
  if x2 = 0 then
    some (0 : Int64)
  else
  (fX6_weightOf σ a4 a2.toInt32).bind fun x4 =>
  some x4.toInt64
set_option maxHeartbeats 4000000 in
theorem metX6_qOf {l : Launch} {G : mG} {b : Nat} {σ : MS} {a1 : Int32} {a2 : Int64} {a4 : Int32} {x : Int64} (h : fX6_qOf σ a1 a2 a4 = some x) : Met l yX6_qOf (ws_ yX6_qOf cX6_qOf 5 (some .long)) rmX6_qOf (mP G b σ [.ref b, .int a1, .long a2, .int a4]) (mQl G b (σ, x)) 0 0 (mB b) := by
  refine m_entry (by decide) rfl (Nat.le_of_ble_eq_true rfl) ?_
  intro p e s m below meth c S hr hlk hK hM hS ls hl
  replace hl : lv_has ls 5 [(0, .ref b), (1, .int a1), (2, .long a2), (4, .int a4)] := hl
  obtain ⟨hx, hb, hml, hown, hts⟩ := id S
  unfold fX6_qOf at h
  refine lv_iload_n hx hb dX6_qOf_0 rfl (lv_at hl 1 rfl) ?_
  refine lv_lookup (off := 11) (tgt := 12) hx hb dX6_qOf_1 rfl rfl (by decide) ?_
  refine lv_lload_n hx hb dX6_qOf_12 rfl (lv_at hl 2 rfl) ?_
  refine lv_lconst (v := (0 : Int64)) hx hb dX6_qOf_13 (by decide) ?_
  refine lv_aload_n hx hb dX6_qOf_14 rfl (lv_at hl 0 rfl) ?_
  replace h := ob h
  obtain ⟨x1, hx1, h⟩ := h
  refine kX6_kindMany S hK hM hS hx1 ⟨Nat.le_of_ble_eq_true rfl, Nat.le_of_ble_eq_true rfl⟩ hl.1 (Nat.le_of_ble_eq_true rfl) dX6_qOf_15 (fun H locs hM hS => ?_)
  refine lv_iconst (v := (1 : Int32)) hx hb dX6_qOf_18 (by decide) ?_
  refine lv_isub hx hb dX6_qOf_19 ?_
  refine lv_i2l (v := (x1 - (1 : Int32)).toInt64) hx hb dX6_qOf_20 rfl ?_
  replace h := ob h
  obtain ⟨x2, hx2, h⟩ := h
  refine kX6_isIn S hK hM hS hx2 ⟨Nat.le_of_ble_eq_true rfl, Nat.le_of_ble_eq_true rfl⟩ hl.1 (Nat.le_of_ble_eq_true rfl) dX6_qOf_21 (fun H locs hM hS => ?_)
  refine lv_if_eq (tgt := 39) hx hb dX6_qOf_24 (by decide) (fun c3 => ?_) (fun c3 => ?_)
  · replace h := it c3 h
    refine lv_lconst (v := (0 : Int64)) hx hb dX6_qOf_39 (by decide) ?_
    exact m_lret' S hr hlk hM hS h dX6_qOf_40
  replace h := ie c3 h
  refine lv_aload_n hx hb dX6_qOf_27 rfl (lv_at hl 0 rfl) ?_
  refine lv_iload hx hb dX6_qOf_28 (lv_at hl 3 rfl) ?_
  refine lv_lload_n hx hb dX6_qOf_30 rfl (lv_at hl 2 rfl) ?_
  refine lv_l2i (v := a2.toInt32) hx hb dX6_qOf_31 rfl ?_
  replace h := ob h
  obtain ⟨x4, hx4, h⟩ := h
  refine kX6_weightOf S hK hM hS hx4 ⟨Nat.le_of_ble_eq_true rfl, Nat.le_of_ble_eq_true rfl⟩ hl.1 (Nat.le_of_ble_eq_true rfl) dX6_qOf_32 (fun H locs hM hS => ?_)
  refine lv_i2l (v := x4.toInt64) hx hb dX6_qOf_35 rfl ?_
  refine lv_goto (tgt := 40) hx hb dX6_qOf_36 (by decide) ?_
  exact m_lret' S hr hlk hM hS h dX6_qOf_40
theorem kX6_qOf {p : Program} {l : Launch} {e : Env} {R : Room} {s : State} {m : MethodId} {args : Array Value} {below : List Frame} {meth : Method} {c : Code} {H H0 : Heap} {locs : List Loc} {Q : State → Prop} {cc : ByteArray} {nL pc : Nat} {ls : Array Slot} {rest : List Value} {G : mG} {b : Nat} {σ : MS} {a1 : Int32} {a2 : Int64} {a4 : Int32} {x : Int64} (S : CallFix p m c cc nL s args lw_all RX6) (hK : mK G s) (hM : MW G b σ H) (hS : va_S (mB b) H0 H locs) (hf : fX6_qOf σ a1 a2 a4 = some x) (hR : rmX6_qOf.frames + 1 ≤ R.frames ∧ 8 + (5 + 11) + rmX6_qOf.locals ≤ R.locals) (hsize : ls.size = nL) (hr : (rest.map fun v => v.category).sum ≤ 8) (hdg : decode cc pc = .ok (.invokevirtual 662, 3)) (kk : ∀ (H1 : Heap) (locs1 : List Loc), MW G b σ H1 → va_S (mB b) H0 H1 locs1 → W p l e R s m args below meth c H1 locs1 0 0 Q (F0 m (pc + 3) ls (.long x :: rest))) : W p l e R s m args below meth c H locs 0 0 Q (F0 m pc ls (.int a4 :: .long a2 :: .int a1 :: .ref b :: rest)) :=
  m_cVl (As := [.int a1, .long a2, .int a4]) S hK hM hS (metX6_qOf hf) (cwV 3 S.2.2.2.2 (lw_V q2577 q2579 qs158 q179 q2580) rfl rfl rfl (by decide +kernel) hR) ⟨Nat.zero_le _, Nat.zero_le _⟩ rfl hsize rfl hr hdg kk
/-! qTold(I)J -/
abbrev rmX6_qTold : Room := { frames := 4, cells := 0, slots := 0, locals := 68 }
def fX6_qTold_162 (k7 : MS → Int32 → Int32 → Option (MS × Int64)) (σ : MS) (a1 : Int32) (a2 : Int32) : Option (MS × Int64) :=
  k7 σ a1 (a2 + (1 : Int32))
def fX6_qTold_7 : Nat → MS → Int32 → Int32 → Option (MS × Int64)
  | 0, _, _, _ => none
  | n + 1, σ, a1, a2 =>
    if (σ.1 92) ≤ a2 then
      (aL σ 97 (0 : Int32)).bind fun v2 =>
      some (σ, v2)
    else
    (aI σ 91 a2).bind fun v3 =>
    if v3 < (1000 : Int32) then
      if v3 < (60 : Int32) then
        if v3 < (40 : Int32) then
          if v3 = (13 : Int32) then
            (fX6_qPuts σ (1 : Int64)).bind fun x12 =>
            fX6_qTold_162 (fun σ' b1 b2 => fX6_qTold_7 n σ' b1 b2) x12 a1 a2
          else
          if v3 = (12 : Int32) then
            (aL σ 97 ((σ.1 98) - (1 : Int32))).bind fun v10 =>
            (tL σ 97 ((σ.1 98) - (1 : Int32)) ((1 : Int64) - v10)).bind fun σ11 =>
            fX6_qTold_162 (fun σ' b1 b2 => fX6_qTold_7 n σ' b1 b2) σ11 a1 a2
          else
          (fX6_qJoins σ v3).bind fun x9 =>
          fX6_qTold_162 (fun σ' b1 b2 => fX6_qTold_7 n σ' b1 b2) x9 a1 a2
        else
        (fX6_qPartOf σ (v3 - (40 : Int32)) a1).bind fun x13 =>
        (fX6_qClip σ x13).bind fun x14 =>
        (fX6_qPuts σ x14).bind fun x15 =>
        fX6_qTold_162 (fun σ' b1 b2 => fX6_qTold_7 n σ' b1 b2) x15 a1 a2
      else
      (aL σ 97 ((σ.1 98) - (1 : Int32))).bind fun v16 =>
      (fX6_qOf σ (v3 - (60 : Int32)) v16 a1).bind fun x17 =>
      (fX6_qClip σ x17).bind fun x18 =>
      (tL σ 97 ((σ.1 98) - (1 : Int32)) x18).bind fun σ19 =>
      fX6_qTold_162 (fun σ' b1 b2 => fX6_qTold_7 n σ' b1 b2) σ19 a1 a2
    else
    (fX6_qPuts σ ((v3 - (1000 : Int32)).toInt64)).bind fun x20 =>
    fX6_qTold_162 (fun σ' b1 b2 => fX6_qTold_7 n σ' b1 b2) x20 a1 a2
def fX6_qTold (σ : MS) (a1 : Int32) : Option (MS × Int64) :=
  fX6_qTold_7 FU (sI σ 98 (0 : Int32)) a1 (0 : Int32)
set_option maxHeartbeats 4000000 in
theorem wX6_qTold_162 {p : Program} {l : Launch} {e : Env} {s : State} {m : MethodId} {args : Array Value} {below : List Frame} {meth : Method} {c : Code} {G : mG} {b : Nat} (S : CallFix p m c cX6_qTold 4 s args lw_all RX6) (hr : meth.sig.returnType = some .long) (hlk : meth.locks = false) (hK : mK G s) {x : MS × Int64} {k7 : MS → Int32 → Int32 → Option (MS × Int64)} (hk7 : ∀ σ a1 a2, k7 σ a1 a2 = some x → mGo p l e rmX6_qTold s m args below meth c G b (MQ below (mQl G b x) args s 0 0 (mB b)) 4 7 [(0, .ref b), (1, .int a1), (2, .int a2)] [] σ) : ∀ (σ : MS) (a1 : Int32) (a2 : Int32), fX6_qTold_162 k7 σ a1 a2 = some x → mGo p l e rmX6_qTold s m args below meth c G b (MQ below (mQl G b x) args s 0 0 (mB b)) 4 162 [(0, .ref b), (1, .int a1), (2, .int a2)] [] σ := by
  obtain ⟨hx, hb, hml, hown, hts⟩ := id S
  intro σ a1 a2 h H locs hM hS ls hl
  unfold fX6_qTold_162 at h
  refine lv_iinc (v := (a2 + (1 : Int32))) (lv' := [(2, .int (a2 + (1 : Int32))), (0, .ref b), (1, .int a1)]) hx hb dX6_qTold_162 hl (k := 2) rfl rfl (by decide) rfl (fun ls hl => ?_)
  refine lv_goto (tgt := 7) hx hb dX6_qTold_165 (by decide) ?_
  exact hk7 σ a1 (a2 + (1 : Int32)) h _ _ hM hS _ (lv_sub hl [1, 2, 0] rfl)
set_option maxHeartbeats 4000000 in
theorem wX6_qTold_7 {p : Program} {l : Launch} {e : Env} {s : State} {m : MethodId} {args : Array Value} {below : List Frame} {meth : Method} {c : Code} {G : mG} {b : Nat} (S : CallFix p m c cX6_qTold 4 s args lw_all RX6) (hr : meth.sig.returnType = some .long) (hlk : meth.locks = false) (hK : mK G s) {x : MS × Int64} : ∀ (n : Nat) (σ : MS) (a1 : Int32) (a2 : Int32), fX6_qTold_7 n σ a1 a2 = some x → mGo p l e rmX6_qTold s m args below meth c G b (MQ below (mQl G b x) args s 0 0 (mB b)) 4 7 [(0, .ref b), (1, .int a1), (2, .int a2)] [] σ := by
  obtain ⟨hx, hb, hml, hown, hts⟩ := id S
  intro n
  induction n with
  | zero => intro σ a1 a2 h; cases h
  | succ n ih =>
    intro σ a1 a2 h H locs hM hS ls hl
    rw [fX6_qTold_7] at h
    refine lv_iload_n hx hb dX6_qTold_7 rfl (lv_at hl 2 rfl) ?_
    refine lv_aload_n hx hb dX6_qTold_8 rfl (lv_at hl 0 rfl) ?_
    refine m_get S hK hM 92 (Nat.le_of_ble_eq_true rfl) q1824 (v := .int (σ.1 92)) rfl dX6_qTold_9 ?_
    refine lv_icmp_ge (tgt := 168) hx hb dX6_qTold_12 (by decide) (fun c1 => ?_) (fun c1 => ?_)
    · replace h := it c1 h
      refine lv_aload_n hx hb dX6_qTold_168 rfl (lv_at hl 0 rfl) ?_
      refine m_get S hK hM 97 (Nat.le_of_ble_eq_true rfl) q1829 (v := .ref (ma b 97)) rfl dX6_qTold_169 ?_
      refine lv_iconst (v := (0 : Int32)) hx hb dX6_qTold_172 (by decide) ?_
      replace h := ob h
      obtain ⟨v2, hv2, h⟩ := h
      refine m_lald S hK hM 97 rfl hv2 dX6_qTold_173 ?_
      exact m_lret S hr hlk hM hS h dX6_qTold_174
    replace h := ie c1 h
    refine lv_aload_n hx hb dX6_qTold_15 rfl (lv_at hl 0 rfl) ?_
    refine m_get S hK hM 91 (Nat.le_of_ble_eq_true rfl) q1823 (v := .ref (ma b 91)) rfl dX6_qTold_16 ?_
    refine lv_iload_n hx hb dX6_qTold_19 rfl (lv_at hl 2 rfl) ?_
    replace h := ob h
    obtain ⟨v3, hv3, h⟩ := h
    refine m_iald S hK hM 91 rfl hv3 dX6_qTold_20 ?_
    refine lv_istore_n (lv' := [(3, .int v3), (0, .ref b), (1, .int a1), (2, .int a2)]) hx hb dX6_qTold_21 rfl hl (by decide) rfl (fun ls hl => ?_)
    refine lv_iload_n hx hb dX6_qTold_22 rfl (lv_at hl 0 rfl) ?_
    refine lv_sipush (v := (1000 : Int32)) hx hb dX6_qTold_23 (by decide) ?_
    refine lv_icmp_lt (tgt := 42) hx hb dX6_qTold_26 (by decide) (fun c4 => ?_) (fun c4 => ?_)
    rotate_left 1
    · replace h := ie c4 h
      refine lv_aload_n hx hb dX6_qTold_29 rfl (lv_at hl 1 rfl) ?_
      refine lv_iload_n hx hb dX6_qTold_30 rfl (lv_at hl 0 rfl) ?_
      refine lv_sipush (v := (1000 : Int32)) hx hb dX6_qTold_31 (by decide) ?_
      refine lv_isub hx hb dX6_qTold_34 ?_
      refine lv_i2l (v := (v3 - (1000 : Int32)).toInt64) hx hb dX6_qTold_35 rfl ?_
      replace h := ob h
      obtain ⟨x20, hx20, h⟩ := h
      refine kX6_qPuts S hK hM hS hx20 ⟨Nat.le_of_ble_eq_true rfl, Nat.le_of_ble_eq_true rfl⟩ hl.1 (Nat.le_of_ble_eq_true rfl) dX6_qTold_36 (fun H locs hM hS => ?_)
      refine lv_goto (tgt := 162) hx hb dX6_qTold_39 (by decide) ?_
      exact wX6_qTold_162 S hr hlk hK ih x20 a1 a2 h _ _ hM hS _ (lv_sub hl [1, 2, 3] rfl)
    replace h := it c4 h
    refine lv_iload_n hx hb dX6_qTold_42 rfl (lv_at hl 0 rfl) ?_
    refine lv_bipush (v := (60 : Int32)) hx hb dX6_qTold_43 (by decide) ?_
    refine lv_icmp_lt (tgt := 85) hx hb dX6_qTold_45 (by decide) (fun c5 => ?_) (fun c5 => ?_)
    rotate_left 1
    · replace h := ie c5 h
      refine lv_aload_n hx hb dX6_qTold_48 rfl (lv_at hl 1 rfl) ?_
      refine m_get S hK hM 97 (Nat.le_of_ble_eq_true rfl) q1829 (v := .ref (ma b 97)) rfl dX6_qTold_49 ?_
      refine lv_aload_n hx hb dX6_qTold_52 rfl (lv_at hl 1 rfl) ?_
      refine m_get S hK hM 98 (Nat.le_of_ble_eq_true rfl) q1830 (v := .int (σ.1 98)) rfl dX6_qTold_53 ?_
      refine lv_iconst (v := (1 : Int32)) hx hb dX6_qTold_56 (by decide) ?_
      refine lv_isub hx hb dX6_qTold_57 ?_
      refine lv_aload_n hx hb dX6_qTold_58 rfl (lv_at hl 1 rfl) ?_
      refine lv_iload_n hx hb dX6_qTold_59 rfl (lv_at hl 0 rfl) ?_
      refine lv_bipush (v := (60 : Int32)) hx hb dX6_qTold_60 (by decide) ?_
      refine lv_isub hx hb dX6_qTold_62 ?_
      refine lv_aload_n hx hb dX6_qTold_63 rfl (lv_at hl 1 rfl) ?_
      refine m_get S hK hM 97 (Nat.le_of_ble_eq_true rfl) q1829 (v := .ref (ma b 97)) rfl dX6_qTold_64 ?_
      refine lv_aload_n hx hb dX6_qTold_67 rfl (lv_at hl 1 rfl) ?_
      refine m_get S hK hM 98 (Nat.le_of_ble_eq_true rfl) q1830 (v := .int (σ.1 98)) rfl dX6_qTold_68 ?_
      refine lv_iconst (v := (1 : Int32)) hx hb dX6_qTold_71 (by decide) ?_
      refine lv_isub hx hb dX6_qTold_72 ?_
      replace h := ob h
      obtain ⟨v16, hv16, h⟩ := h
      refine m_lald S hK hM 97 rfl hv16 dX6_qTold_73 ?_
      refine lv_iload_n hx hb dX6_qTold_74 rfl (lv_at hl 2 rfl) ?_
      replace h := ob h
      obtain ⟨x17, hx17, h⟩ := h
      refine kX6_qOf S hK hM hS hx17 ⟨Nat.le_of_ble_eq_true rfl, Nat.le_of_ble_eq_true rfl⟩ hl.1 (Nat.le_of_ble_eq_true rfl) dX6_qTold_75 (fun H locs hM hS => ?_)
      replace h := ob h
      obtain ⟨x18, hx18, h⟩ := h
      refine kX6_qClip S hK hM hS hx18 ⟨Nat.le_of_ble_eq_true rfl, Nat.le_of_ble_eq_true rfl⟩ hl.1 (Nat.le_of_ble_eq_true rfl) dX6_qTold_78 (fun H locs hM hS => ?_)
      replace h := ob h
      obtain ⟨σ19, hσ19, h⟩ := h
      refine m_last S hK hM hS 97 rfl hσ19 dX6_qTold_81 (fun H locs hM hS => ?_)
      refine lv_goto (tgt := 162) hx hb dX6_qTold_82 (by decide) ?_
      exact wX6_qTold_162 S hr hlk hK ih σ19 a1 a2 h _ _ hM hS _ (lv_sub hl [1, 2, 3] rfl)
    replace h := it c5 h
    refine lv_iload_n hx hb dX6_qTold_85 rfl (lv_at hl 0 rfl) ?_
    refine lv_bipush (v := (40 : Int32)) hx hb dX6_qTold_86 (by decide) ?_
    refine lv_icmp_lt (tgt := 110) hx hb dX6_qTold_88 (by decide) (fun c6 => ?_) (fun c6 => ?_)
    rotate_left 1
    · replace h := ie c6 h
      refine lv_aload_n hx hb dX6_qTold_91 rfl (lv_at hl 1 rfl) ?_
      refine lv_aload_n hx hb dX6_qTold_92 rfl (lv_at hl 1 rfl) ?_
      refine lv_iload_n hx hb dX6_qTold_93 rfl (lv_at hl 0 rfl) ?_
      refine lv_bipush (v := (40 : Int32)) hx hb dX6_qTold_94 (by decide) ?_
      refine lv_isub hx hb dX6_qTold_96 ?_
      refine lv_iload_n hx hb dX6_qTold_97 rfl (lv_at hl 2 rfl) ?_
      replace h := ob h
      obtain ⟨x13, hx13, h⟩ := h
      refine kX6_qPartOf S hK hM hS hx13 ⟨Nat.le_of_ble_eq_true rfl, Nat.le_of_ble_eq_true rfl⟩ hl.1 (Nat.le_of_ble_eq_true rfl) dX6_qTold_98 (fun H locs hM hS => ?_)
      replace h := ob h
      obtain ⟨x14, hx14, h⟩ := h
      refine kX6_qClip S hK hM hS hx14 ⟨Nat.le_of_ble_eq_true rfl, Nat.le_of_ble_eq_true rfl⟩ hl.1 (Nat.le_of_ble_eq_true rfl) dX6_qTold_101 (fun H locs hM hS => ?_)
      replace h := ob h
      obtain ⟨x15, hx15, h⟩ := h
      refine kX6_qPuts S hK hM hS hx15 ⟨Nat.le_of_ble_eq_true rfl, Nat.le_of_ble_eq_true rfl⟩ hl.1 (Nat.le_of_ble_eq_true rfl) dX6_qTold_104 (fun H locs hM hS => ?_)
      refine lv_goto (tgt := 162) hx hb dX6_qTold_107 (by decide) ?_
      exact wX6_qTold_162 S hr hlk hK ih x15 a1 a2 h _ _ hM hS _ (lv_sub hl [1, 2, 3] rfl)
    replace h := it c6 h
    refine lv_iload_n hx hb dX6_qTold_110 rfl (lv_at hl 0 rfl) ?_
    refine lv_bipush (v := (13 : Int32)) hx hb dX6_qTold_111 (by decide) ?_
    refine lv_icmp_ne (tgt := 124) hx hb dX6_qTold_113 (by decide) (fun c7 => ?_) (fun c7 => ?_)
    rotate_left 1
    · replace h := it c7 h
      refine lv_aload_n hx hb dX6_qTold_116 rfl (lv_at hl 1 rfl) ?_
      refine lv_lconst (v := (1 : Int64)) hx hb dX6_qTold_117 (by decide) ?_
      replace h := ob h
      obtain ⟨x12, hx12, h⟩ := h
      refine kX6_qPuts S hK hM hS hx12 ⟨Nat.le_of_ble_eq_true rfl, Nat.le_of_ble_eq_true rfl⟩ hl.1 (Nat.le_of_ble_eq_true rfl) dX6_qTold_118 (fun H locs hM hS => ?_)
      refine lv_goto (tgt := 162) hx hb dX6_qTold_121 (by decide) ?_
      exact wX6_qTold_162 S hr hlk hK ih x12 a1 a2 h _ _ hM hS _ (lv_sub hl [1, 2, 3] rfl)
    replace h := ie c7 h
    refine lv_iload_n hx hb dX6_qTold_124 rfl (lv_at hl 0 rfl) ?_
    refine lv_bipush (v := (12 : Int32)) hx hb dX6_qTold_125 (by decide) ?_
    refine lv_icmp_ne (tgt := 157) hx hb dX6_qTold_127 (by decide) (fun c8 => ?_) (fun c8 => ?_)
    · replace h := ie c8 h
      refine lv_aload_n hx hb dX6_qTold_157 rfl (lv_at hl 1 rfl) ?_
      refine lv_iload_n hx hb dX6_qTold_158 rfl (lv_at hl 0 rfl) ?_
      replace h := ob h
      obtain ⟨x9, hx9, h⟩ := h
      refine kX6_qJoins S hK hM hS hx9 ⟨Nat.le_of_ble_eq_true rfl, Nat.le_of_ble_eq_true rfl⟩ hl.1 (Nat.le_of_ble_eq_true rfl) dX6_qTold_159 (fun H locs hM hS => ?_)
      exact wX6_qTold_162 S hr hlk hK ih x9 a1 a2 h _ _ hM hS _ (lv_sub hl [1, 2, 3] rfl)
    replace h := it c8 h
    refine lv_aload_n hx hb dX6_qTold_130 rfl (lv_at hl 1 rfl) ?_
    refine m_get S hK hM 97 (Nat.le_of_ble_eq_true rfl) q1829 (v := .ref (ma b 97)) rfl dX6_qTold_131 ?_
    refine lv_aload_n hx hb dX6_qTold_134 rfl (lv_at hl 1 rfl) ?_
    refine m_get S hK hM 98 (Nat.le_of_ble_eq_true rfl) q1830 (v := .int (σ.1 98)) rfl dX6_qTold_135 ?_
    refine lv_iconst (v := (1 : Int32)) hx hb dX6_qTold_138 (by decide) ?_
    refine lv_isub hx hb dX6_qTold_139 ?_
    refine lv_lconst (v := (1 : Int64)) hx hb dX6_qTold_140 (by decide) ?_
    refine lv_aload_n hx hb dX6_qTold_141 rfl (lv_at hl 1 rfl) ?_
    refine m_get S hK hM 97 (Nat.le_of_ble_eq_true rfl) q1829 (v := .ref (ma b 97)) rfl dX6_qTold_142 ?_
    refine lv_aload_n hx hb dX6_qTold_145 rfl (lv_at hl 1 rfl) ?_
    refine m_get S hK hM 98 (Nat.le_of_ble_eq_true rfl) q1830 (v := .int (σ.1 98)) rfl dX6_qTold_146 ?_
    refine lv_iconst (v := (1 : Int32)) hx hb dX6_qTold_149 (by decide) ?_
    refine lv_isub hx hb dX6_qTold_150 ?_
    replace h := ob h
    obtain ⟨v10, hv10, h⟩ := h
    refine m_lald S hK hM 97 rfl hv10 dX6_qTold_151 ?_
    refine lv_lsub hx hb dX6_qTold_152 ?_
    replace h := ob h
    obtain ⟨σ11, hσ11, h⟩ := h
    refine m_last S hK hM hS 97 rfl hσ11 dX6_qTold_153 (fun H locs hM hS => ?_)
    refine lv_goto (tgt := 162) hx hb dX6_qTold_154 (by decide) ?_
    exact wX6_qTold_162 S hr hlk hK ih σ11 a1 a2 h _ _ hM hS _ (lv_sub hl [1, 2, 3] rfl)
set_option maxHeartbeats 4000000 in
theorem metX6_qTold {l : Launch} {G : mG} {b : Nat} {σ : MS} {a1 : Int32} {x : MS × Int64} (h : fX6_qTold σ a1 = some x) : Met l yX6_qTold (ws_ yX6_qTold cX6_qTold 4 (some .long)) rmX6_qTold (mP G b σ [.ref b, .int a1]) (mQl G b x) 0 0 (mB b) := by
  refine m_entry (by decide) rfl (Nat.le_of_ble_eq_true rfl) ?_
  intro p e s m below meth c S hr hlk hK hM hS ls hl
  replace hl : lv_has ls 4 [(0, .ref b), (1, .int a1)] := hl
  obtain ⟨hx, hb, hml, hown, hts⟩ := id S
  unfold fX6_qTold at h
  refine lv_aload_n hx hb dX6_qTold_0 rfl (lv_at hl 0 rfl) ?_
  refine lv_iconst (v := (0 : Int32)) hx hb dX6_qTold_1 (by decide) ?_
  refine m_putI S hK hM hS 98 (Nat.le_of_ble_eq_true rfl) rfl q1830 rfl (ty := .int) rfl rfl rfl dX6_qTold_2 (fun H locs hM hS => ?_)
  refine lv_iconst (v := (0 : Int32)) hx hb dX6_qTold_5 (by decide) ?_
  refine lv_istore_n (lv' := [(2, .int (0 : Int32)), (0, .ref b), (1, .int a1)]) hx hb dX6_qTold_6 rfl hl (by decide) rfl (fun ls hl => ?_)
  exact wX6_qTold_7 S hr hlk hK FU (sI σ 98 (0 : Int32)) a1 (0 : Int32) h _ _ hM hS _ (lv_sub hl [1, 2, 0] rfl)
theorem kX6_qTold {p : Program} {l : Launch} {e : Env} {R : Room} {s : State} {m : MethodId} {args : Array Value} {below : List Frame} {meth : Method} {c : Code} {H H0 : Heap} {locs : List Loc} {Q : State → Prop} {cc : ByteArray} {nL pc : Nat} {ls : Array Slot} {rest : List Value} {G : mG} {b : Nat} {σ : MS} {a1 : Int32} {x : MS × Int64} (S : CallFix p m c cc nL s args lw_all RX6) (hK : mK G s) (hM : MW G b σ H) (hS : va_S (mB b) H0 H locs) (hf : fX6_qTold σ a1 = some x) (hR : rmX6_qTold.frames + 1 ≤ R.frames ∧ 8 + (4 + 11) + rmX6_qTold.locals ≤ R.locals) (hsize : ls.size = nL) (hr : (rest.map fun v => v.category).sum ≤ 8) (hdg : decode cc pc = .ok (.invokevirtual 677, 3)) (kk : ∀ (H1 : Heap) (locs1 : List Loc), MW G b x.1 H1 → va_S (mB b) H0 H1 locs1 → W p l e R s m args below meth c H1 locs1 0 0 Q (F0 m (pc + 3) ls (.long x.2 :: rest))) : W p l e R s m args below meth c H locs 0 0 Q (F0 m pc ls (.int a1 :: .ref b :: rest)) :=
  m_cVl (As := [.int a1]) S hK hM hS (metX6_qTold hf) (cwV 1 S.2.2.2.2 (lw_V q2573 q2575 qs157 q179 q2576) rfl rfl rfl (by decide +kernel) hR) ⟨Nat.zero_le _, Nat.zero_le _⟩ rfl hsize rfl hr hdg kk
/-! ask(I)J -/
abbrev rmX6_ask : Room := { frames := 10, cells := 0, slots := 0, locals := 196 }
def fX6_ask_203 : Nat → MS → Int32 → Int32 → Option (MS × Int64)
  | 0, _, _, _ => none
  | n + 1, σ, a2, a3 =>
    (fX6_filmMany σ).bind fun x1 =>
    if x1 ≤ a3 then
      some (σ, (σ.2.1 99))
    else
    (fX6_qTold σ a3).bind fun x3 =>
    (fX6_qTakes x3.1 a2 x3.2 a3).bind fun x4 =>
    fX6_ask_203 n x4 a2 (a3 + (1 : Int32))
def fX6_ask_174 (σ : MS) (a1 : Int32) (a2 : Int32) (t1 : Int64) : Option (MS × Int64) :=
  (fX6_profileOf (sI (sI (sL σ 99 t1) 100 (1 : Int32)) 56 a1) a1).bind fun x1 =>
  fX6_ask_203 FU (sI (sI (sI (sI (sL σ 99 t1) 100 (1 : Int32)) 56 a1) 57 x1) 53 (3 : Int32)) a2 (0 : Int32)
def fX6_ask_134 (σ : MS) (a1 : Int32) (a2 : Int32) : Option (MS × Int64) :=
  if ((sI (sI σ 7 (σ.1 5)) 8 ((sI σ 7 (σ.1 5)).1 6)).1 5) = 0 then
    if (2 : Int32) ≤ a2 then
      fX6_ask_174 (sI (sI σ 7 (σ.1 5)) 8 ((sI σ 7 (σ.1 5)).1 6)) a1 a2 (0 : Int64)
    else
    fX6_ask_174 (sI (sI σ 7 (σ.1 5)) 8 ((sI σ 7 (σ.1 5)).1 6)) a1 a2 (-1 : Int64)
  else
  some ((sI (sI σ 7 (σ.1 5)) 8 ((sI σ 7 (σ.1 5)).1 6)), (-1000000000000000 : Int64))
def fX6_ask_110 (σ : MS) (a1 : Int32) (a2 : Int32) : Option (MS × Int64) :=
  if (σ.1 5) = 0 then
    (fX6_look σ).bind fun x2 =>
    if x2.2 = (-1 : Int32) then
      fX6_ask_134 x2.1 a1 a2
    else
    (fX6_fail x2.1 (1 : Int32) (x2.1.1 2)).bind fun x4 =>
    fX6_ask_134 x4 a1 a2
  else
  fX6_ask_134 σ a1 a2
def fX6_ask_99 (σ : MS) (a1 : Int32) (a2 : Int32) : Option (MS × Int64) :=
  if (σ.1 5) = 0 then
    (fX6_qSums σ).bind fun x2 =>
    fX6_ask_110 x2 a1 a2
  else
  fX6_ask_110 σ a1 a2
def fX6_ask (σ : MS) (a1 : Int32) : Option (MS × Int64) :=
  (fX6_isPerson σ a1).bind fun x1 =>
  if x1 = 0 then
    some ((sI σ 1 (0 : Int32)), (-1000000000000000 : Int64))
  else
  (fX6_qKind (sI (sI (sI (sI (sI (sI (sI (sI (sI (sI (sI σ 3 (σ.1 1)) 1 (0 : Int32)) 2 (0 : Int32)) 4 (-1 : Int32)) 5 (0 : Int32)) 6 (-1 : Int32)) 53 (3 : Int32)) 92 (0 : Int32)) 94 (0 : Int32)) 95 (0 : Int32)) 96 (0 : Int32))).bind fun x3 =>
  if (x3.1.1 5) = 0 then
    if (3 : Int32) ≤ x3.2 then
      fX6_ask_99 x3.1 a1 x3.2
    else
    (fX6_qTest x3.1).bind fun x6 =>
    fX6_ask_110 x6 a1 x3.2
  else
  fX6_ask_99 x3.1 a1 x3.2
set_option maxHeartbeats 4000000 in
theorem wX6_ask_203 {p : Program} {l : Launch} {e : Env} {s : State} {m : MethodId} {args : Array Value} {below : List Frame} {meth : Method} {c : Code} {G : mG} {b : Nat} (S : CallFix p m c cX6_ask 4 s args lw_all RX6) (hr : meth.sig.returnType = some .long) (hlk : meth.locks = false) (hK : mK G s) {x : MS × Int64} : ∀ (n : Nat) (σ : MS) (a2 : Int32) (a3 : Int32), fX6_ask_203 n σ a2 a3 = some x → mGo p l e rmX6_ask s m args below meth c G b (MQ below (mQl G b x) args s 0 0 (mB b)) 4 203 [(0, .ref b), (2, .int a2), (3, .int a3)] [] σ := by
  obtain ⟨hx, hb, hml, hown, hts⟩ := id S
  intro n
  induction n with
  | zero => intro σ a2 a3 h; cases h
  | succ n ih =>
    intro σ a2 a3 h H locs hM hS ls hl
    rw [fX6_ask_203] at h
    refine lv_iload_n hx hb dX6_ask_203 rfl (lv_at hl 2 rfl) ?_
    refine lv_aload_n hx hb dX6_ask_204 rfl (lv_at hl 0 rfl) ?_
    replace h := ob h
    obtain ⟨x1, hx1, h⟩ := h
    refine kX6_filmMany S hK hM hS hx1 ⟨Nat.le_of_ble_eq_true rfl, Nat.le_of_ble_eq_true rfl⟩ hl.1 (Nat.le_of_ble_eq_true rfl) dX6_ask_205 (fun H locs hM hS => ?_)
    refine lv_icmp_ge (tgt := 228) hx hb dX6_ask_208 (by decide) (fun c2 => ?_) (fun c2 => ?_)
    · replace h := it c2 h
      refine lv_aload_n hx hb dX6_ask_228 rfl (lv_at hl 0 rfl) ?_
      refine m_get S hK hM 99 (Nat.le_of_ble_eq_true rfl) q1831 (v := .long (σ.2.1 99)) rfl dX6_ask_229 ?_
      exact m_lret S hr hlk hM hS h dX6_ask_232
    replace h := ie c2 h
    refine lv_aload_n hx hb dX6_ask_211 rfl (lv_at hl 0 rfl) ?_
    refine lv_iload_n hx hb dX6_ask_212 rfl (lv_at hl 1 rfl) ?_
    refine lv_aload_n hx hb dX6_ask_213 rfl (lv_at hl 0 rfl) ?_
    refine lv_iload_n hx hb dX6_ask_214 rfl (lv_at hl 2 rfl) ?_
    replace h := ob h
    obtain ⟨x3, hx3, h⟩ := h
    refine kX6_qTold S hK hM hS hx3 ⟨Nat.le_of_ble_eq_true rfl, Nat.le_of_ble_eq_true rfl⟩ hl.1 (Nat.le_of_ble_eq_true rfl) dX6_ask_215 (fun H locs hM hS => ?_)
    refine lv_iload_n hx hb dX6_ask_218 rfl (lv_at hl 2 rfl) ?_
    replace h := ob h
    obtain ⟨x4, hx4, h⟩ := h
    refine kX6_qTakes S hK hM hS hx4 ⟨Nat.le_of_ble_eq_true rfl, Nat.le_of_ble_eq_true rfl⟩ hl.1 (Nat.le_of_ble_eq_true rfl) dX6_ask_219 (fun H locs hM hS => ?_)
    refine lv_iinc (v := (a3 + (1 : Int32))) (lv' := [(3, .int (a3 + (1 : Int32))), (0, .ref b), (2, .int a2)]) hx hb dX6_ask_222 hl (k := 2) rfl rfl (by decide) rfl (fun ls hl => ?_)
    refine lv_goto (tgt := 203) hx hb dX6_ask_225 (by decide) ?_
    exact ih x4 a2 (a3 + (1 : Int32)) h _ _ hM hS _ (lv_sub hl [1, 2, 0] rfl)
set_option maxHeartbeats 4000000 in
theorem wX6_ask_174 {p : Program} {l : Launch} {e : Env} {s : State} {m : MethodId} {args : Array Value} {below : List Frame} {meth : Method} {c : Code} {G : mG} {b : Nat} (S : CallFix p m c cX6_ask 4 s args lw_all RX6) (hr : meth.sig.returnType = some .long) (hlk : meth.locks = false) (hK : mK G s) {x : MS × Int64} : ∀ (σ : MS) (a1 : Int32) (a2 : Int32) (t1 : Int64), fX6_ask_174 σ a1 a2 t1 = some x → mGo p l e rmX6_ask s m args below meth c G b (MQ below (mQl G b x) args s 0 0 (mB b)) 4 174 [(0, .ref b), (1, .int a1), (2, .int a2)] [.long t1, .ref b] σ := by
  obtain ⟨hx, hb, hml, hown, hts⟩ := id S
  intro σ a1 a2 t1 h H locs hM hS ls hl
  unfold fX6_ask_174 at h
  refine m_putL S hK hM hS 99 (Nat.le_of_ble_eq_true rfl) rfl q1831 rfl rfl dX6_ask_174 (fun H locs hM hS => ?_)
  refine lv_aload_n hx hb dX6_ask_177 rfl (lv_at hl 0 rfl) ?_
  refine lv_iconst (v := (1 : Int32)) hx hb dX6_ask_178 (by decide) ?_
  refine m_putI S hK hM hS 100 (Nat.le_of_ble_eq_true rfl) rfl q1832 rfl (ty := .boolean) rfl rfl rfl dX6_ask_179 (fun H locs hM hS => ?_)
  refine lv_aload_n hx hb dX6_ask_182 rfl (lv_at hl 0 rfl) ?_
  refine lv_iload_n hx hb dX6_ask_183 rfl (lv_at hl 1 rfl) ?_
  refine m_putI S hK hM hS 56 (Nat.le_of_ble_eq_true rfl) rfl q1788 rfl (ty := .int) rfl rfl rfl dX6_ask_184 (fun H locs hM hS => ?_)
  refine lv_aload_n hx hb dX6_ask_187 rfl (lv_at hl 0 rfl) ?_
  refine lv_aload_n hx hb dX6_ask_188 rfl (lv_at hl 0 rfl) ?_
  refine lv_iload_n hx hb dX6_ask_189 rfl (lv_at hl 1 rfl) ?_
  replace h := ob h
  obtain ⟨x1, hx1, h⟩ := h
  refine kX6_profileOf S hK hM hS hx1 ⟨Nat.le_of_ble_eq_true rfl, Nat.le_of_ble_eq_true rfl⟩ hl.1 (Nat.le_of_ble_eq_true rfl) dX6_ask_190 (fun H locs hM hS => ?_)
  refine m_putI S hK hM hS 57 (Nat.le_of_ble_eq_true rfl) rfl q1789 rfl (ty := .int) rfl rfl rfl dX6_ask_193 (fun H locs hM hS => ?_)
  refine lv_aload_n hx hb dX6_ask_196 rfl (lv_at hl 0 rfl) ?_
  refine lv_iconst (v := (3 : Int32)) hx hb dX6_ask_197 (by decide) ?_
  refine m_putI S hK hM hS 53 (Nat.le_of_ble_eq_true rfl) rfl q1785 rfl (ty := .int) rfl rfl rfl dX6_ask_198 (fun H locs hM hS => ?_)
  refine lv_iconst (v := (0 : Int32)) hx hb dX6_ask_201 (by decide) ?_
  refine lv_istore_n (lv' := [(3, .int (0 : Int32)), (0, .ref b), (1, .int a1), (2, .int a2)]) hx hb dX6_ask_202 rfl hl (by decide) rfl (fun ls hl => ?_)
  exact wX6_ask_203 S hr hlk hK FU (sI (sI (sI (sI (sL σ 99 t1) 100 (1 : Int32)) 56 a1) 57 x1) 53 (3 : Int32)) a2 (0 : Int32) h _ _ hM hS _ (lv_sub hl [1, 3, 0] rfl)
set_option maxHeartbeats 4000000 in
theorem wX6_ask_134 {p : Program} {l : Launch} {e : Env} {s : State} {m : MethodId} {args : Array Value} {below : List Frame} {meth : Method} {c : Code} {G : mG} {b : Nat} (S : CallFix p m c cX6_ask 4 s args lw_all RX6) (hr : meth.sig.returnType = some .long) (hlk : meth.locks = false) (hK : mK G s) {x : MS × Int64} : ∀ (σ : MS) (a1 : Int32) (a2 : Int32), fX6_ask_134 σ a1 a2 = some x → mGo p l e rmX6_ask s m args below meth c G b (MQ below (mQl G b x) args s 0 0 (mB b)) 4 134 [(0, .ref b), (1, .int a1), (2, .int a2)] [] σ := by
  obtain ⟨hx, hb, hml, hown, hts⟩ := id S
  intro σ a1 a2 h H locs hM hS ls hl
  unfold fX6_ask_134 at h
  refine lv_aload_n hx hb dX6_ask_134 rfl (lv_at hl 0 rfl) ?_
  refine lv_aload_n hx hb dX6_ask_135 rfl (lv_at hl 0 rfl) ?_
  refine m_get S hK hM 5 (Nat.le_of_ble_eq_true rfl) q1737 (v := .int (σ.1 5)) rfl dX6_ask_136 ?_
  refine m_putI S hK hM hS 7 (Nat.le_of_ble_eq_true rfl) rfl q1739 rfl (ty := .int) rfl rfl rfl dX6_ask_139 (fun H locs hM hS => ?_)
  refine lv_aload_n hx hb dX6_ask_142 rfl (lv_at hl 0 rfl) ?_
  refine lv_aload_n hx hb dX6_ask_143 rfl (lv_at hl 0 rfl) ?_
  refine m_get S hK hM 6 (Nat.le_of_ble_eq_true rfl) q1738 (v := .int ((sI σ 7 (σ.1 5)).1 6)) rfl dX6_ask_144 ?_
  refine m_putI S hK hM hS 8 (Nat.le_of_ble_eq_true rfl) rfl q1740 rfl (ty := .int) rfl rfl rfl dX6_ask_147 (fun H locs hM hS => ?_)
  refine lv_aload_n hx hb dX6_ask_150 rfl (lv_at hl 0 rfl) ?_
  refine m_get S hK hM 5 (Nat.le_of_ble_eq_true rfl) q1737 (v := .int ((sI (sI σ 7 (σ.1 5)) 8 ((sI σ 7 (σ.1 5)).1 6)).1 5)) rfl dX6_ask_151 ?_
  refine lv_if_eq (tgt := 161) hx hb dX6_ask_154 (by decide) (fun c1 => ?_) (fun c1 => ?_)
  rotate_left 1
  · replace h := ie c1 h
    refine lv_ldc2 hx hb hown (hts _ q2402) dX6_ask_157 ?_
    exact m_lret S hr hlk hM hS h dX6_ask_160
  replace h := it c1 h
  refine lv_aload_n hx hb dX6_ask_161 rfl (lv_at hl 0 rfl) ?_
  refine lv_iload_n hx hb dX6_ask_162 rfl (lv_at hl 2 rfl) ?_
  refine lv_iconst (v := (2 : Int32)) hx hb dX6_ask_163 (by decide) ?_
  refine lv_icmp_ge (tgt := 173) hx hb dX6_ask_164 (by decide) (fun c2 => ?_) (fun c2 => ?_)
  · replace h := it c2 h
    refine lv_lconst (v := (0 : Int64)) hx hb dX6_ask_173 (by decide) ?_
    exact wX6_ask_174 S hr hlk hK (sI (sI σ 7 (σ.1 5)) 8 ((sI σ 7 (σ.1 5)).1 6)) a1 a2 (0 : Int64) h _ _ hM hS _ (lv_sub hl [0, 1, 2] rfl)
  replace h := ie c2 h
  refine lv_ldc2 hx hb hown (hts _ q2572) dX6_ask_167 ?_
  refine lv_goto (tgt := 174) hx hb dX6_ask_170 (by decide) ?_
  exact wX6_ask_174 S hr hlk hK (sI (sI σ 7 (σ.1 5)) 8 ((sI σ 7 (σ.1 5)).1 6)) a1 a2 (-1 : Int64) h _ _ hM hS _ (lv_sub hl [0, 1, 2] rfl)
set_option maxHeartbeats 4000000 in
theorem wX6_ask_110 {p : Program} {l : Launch} {e : Env} {s : State} {m : MethodId} {args : Array Value} {below : List Frame} {meth : Method} {c : Code} {G : mG} {b : Nat} (S : CallFix p m c cX6_ask 4 s args lw_all RX6) (hr : meth.sig.returnType = some .long) (hlk : meth.locks = false) (hK : mK G s) {x : MS × Int64} : ∀ (σ : MS) (a1 : Int32) (a2 : Int32), fX6_ask_110 σ a1 a2 = some x → mGo p l e rmX6_ask s m args below meth c G b (MQ below (mQl G b x) args s 0 0 (mB b)) 4 110 [(0, .ref b), (1, .int a1), (2, .int a2)] [] σ := by
  obtain ⟨hx, hb, hml, hown, hts⟩ := id S
  intro σ a1 a2 h H locs hM hS ls hl
  unfold fX6_ask_110 at h
  refine lv_aload_n hx hb dX6_ask_110 rfl (lv_at hl 0 rfl) ?_
  refine m_get S hK hM 5 (Nat.le_of_ble_eq_true rfl) q1737 (v := .int (σ.1 5)) rfl dX6_ask_111 ?_
  refine lv_if_ne (tgt := 134) hx hb dX6_ask_114 (by decide) (fun c1 => ?_) (fun c1 => ?_)
  · replace h := ie c1 h
    exact wX6_ask_134 S hr hlk hK σ a1 a2 h _ _ hM hS _ (lv_sub hl [0, 1, 2] rfl)
  replace h := it c1 h
  refine lv_aload_n hx hb dX6_ask_117 rfl (lv_at hl 0 rfl) ?_
  replace h := ob h
  obtain ⟨x2, hx2, h⟩ := h
  refine kX6_look S hK hM hS hx2 ⟨Nat.le_of_ble_eq_true rfl, Nat.le_of_ble_eq_true rfl⟩ hl.1 (Nat.le_of_ble_eq_true rfl) dX6_ask_118 (fun H locs hM hS => ?_)
  refine lv_iconst (v := (-1 : Int32)) hx hb dX6_ask_121 (by decide) ?_
  refine lv_icmp_eq (tgt := 134) hx hb dX6_ask_122 (by decide) (fun c3 => ?_) (fun c3 => ?_)
  · replace h := it c3 h
    exact wX6_ask_134 S hr hlk hK x2.1 a1 a2 h _ _ hM hS _ (lv_sub hl [0, 1, 2] rfl)
  replace h := ie c3 h
  refine lv_aload_n hx hb dX6_ask_125 rfl (lv_at hl 0 rfl) ?_
  refine lv_iconst (v := (1 : Int32)) hx hb dX6_ask_126 (by decide) ?_
  refine lv_aload_n hx hb dX6_ask_127 rfl (lv_at hl 0 rfl) ?_
  refine m_get S hK hM 2 (Nat.le_of_ble_eq_true rfl) q1734 (v := .int (x2.1.1 2)) rfl dX6_ask_128 ?_
  replace h := ob h
  obtain ⟨x4, hx4, h⟩ := h
  refine kX6_fail S hK hM hS hx4 ⟨Nat.le_of_ble_eq_true rfl, Nat.le_of_ble_eq_true rfl⟩ hl.1 (Nat.le_of_ble_eq_true rfl) dX6_ask_131 (fun H locs hM hS => ?_)
  exact wX6_ask_134 S hr hlk hK x4 a1 a2 h _ _ hM hS _ (lv_sub hl [0, 1, 2] rfl)
set_option maxHeartbeats 4000000 in
theorem wX6_ask_99 {p : Program} {l : Launch} {e : Env} {s : State} {m : MethodId} {args : Array Value} {below : List Frame} {meth : Method} {c : Code} {G : mG} {b : Nat} (S : CallFix p m c cX6_ask 4 s args lw_all RX6) (hr : meth.sig.returnType = some .long) (hlk : meth.locks = false) (hK : mK G s) {x : MS × Int64} : ∀ (σ : MS) (a1 : Int32) (a2 : Int32), fX6_ask_99 σ a1 a2 = some x → mGo p l e rmX6_ask s m args below meth c G b (MQ below (mQl G b x) args s 0 0 (mB b)) 4 99 [(0, .ref b), (1, .int a1), (2, .int a2)] [] σ := by
  obtain ⟨hx, hb, hml, hown, hts⟩ := id S
  intro σ a1 a2 h H locs hM hS ls hl
  unfold fX6_ask_99 at h
  refine lv_aload_n hx hb dX6_ask_99 rfl (lv_at hl 0 rfl) ?_
  refine m_get S hK hM 5 (Nat.le_of_ble_eq_true rfl) q1737 (v := .int (σ.1 5)) rfl dX6_ask_100 ?_
  refine lv_if_ne (tgt := 110) hx hb dX6_ask_103 (by decide) (fun c1 => ?_) (fun c1 => ?_)
  · replace h := ie c1 h
    exact wX6_ask_110 S hr hlk hK σ a1 a2 h _ _ hM hS _ (lv_sub hl [0, 1, 2] rfl)
  replace h := it c1 h
  refine lv_aload_n hx hb dX6_ask_106 rfl (lv_at hl 0 rfl) ?_
  replace h := ob h
  obtain ⟨x2, hx2, h⟩ := h
  refine kX6_qSums S hK hM hS hx2 ⟨Nat.le_of_ble_eq_true rfl, Nat.le_of_ble_eq_true rfl⟩ hl.1 (Nat.le_of_ble_eq_true rfl) dX6_ask_107 (fun H locs hM hS => ?_)
  exact wX6_ask_110 S hr hlk hK x2 a1 a2 h _ _ hM hS _ (lv_sub hl [0, 1, 2] rfl)
set_option maxHeartbeats 4000000 in
theorem metX6_ask {l : Launch} {G : mG} {b : Nat} {σ : MS} {a1 : Int32} {x : MS × Int64} (h : fX6_ask σ a1 = some x) : Met l yX6_ask (ws_ yX6_ask cX6_ask 4 (some .long)) rmX6_ask (mP G b σ [.ref b, .int a1]) (mQl G b x) 0 0 (mB b) := by
  refine m_entry (by decide) rfl (Nat.le_of_ble_eq_true rfl) ?_
  intro p e s m below meth c S hr hlk hK hM hS ls hl
  replace hl : lv_has ls 4 [(0, .ref b), (1, .int a1)] := hl
  obtain ⟨hx, hb, hml, hown, hts⟩ := id S
  unfold fX6_ask at h
  refine lv_aload_n hx hb dX6_ask_0 rfl (lv_at hl 0 rfl) ?_
  refine lv_iload_n hx hb dX6_ask_1 rfl (lv_at hl 1 rfl) ?_
  replace h := ob h
  obtain ⟨x1, hx1, h⟩ := h
  refine kX6_isPerson S hK hM hS hx1 ⟨Nat.le_of_ble_eq_true rfl, Nat.le_of_ble_eq_true rfl⟩ hl.1 (Nat.le_of_ble_eq_true rfl) dX6_ask_2 (fun H locs hM hS => ?_)
  refine lv_if_ne (tgt := 17) hx hb dX6_ask_5 (by decide) (fun c2 => ?_) (fun c2 => ?_)
  rotate_left 1
  · replace h := it c2 h
    refine lv_aload_n hx hb dX6_ask_8 rfl (lv_at hl 0 rfl) ?_
    refine lv_iconst (v := (0 : Int32)) hx hb dX6_ask_9 (by decide) ?_
    refine m_putI S hK hM hS 1 (Nat.le_of_ble_eq_true rfl) rfl q1733 rfl (ty := .int) rfl rfl rfl dX6_ask_10 (fun H locs hM hS => ?_)
    refine lv_ldc2 hx hb hown (hts _ q2402) dX6_ask_13 ?_
    exact m_lret S hr hlk hM hS h dX6_ask_16
  replace h := ie c2 h
  refine lv_aload_n hx hb dX6_ask_17 rfl (lv_at hl 0 rfl) ?_
  refine lv_aload_n hx hb dX6_ask_18 rfl (lv_at hl 0 rfl) ?_
  refine m_get S hK hM 1 (Nat.le_of_ble_eq_true rfl) q1733 (v := .int (σ.1 1)) rfl dX6_ask_19 ?_
  refine m_putI S hK hM hS 3 (Nat.le_of_ble_eq_true rfl) rfl q1735 rfl (ty := .int) rfl rfl rfl dX6_ask_22 (fun H locs hM hS => ?_)
  refine lv_aload_n hx hb dX6_ask_25 rfl (lv_at hl 0 rfl) ?_
  refine lv_iconst (v := (0 : Int32)) hx hb dX6_ask_26 (by decide) ?_
  refine m_putI S hK hM hS 1 (Nat.le_of_ble_eq_true rfl) rfl q1733 rfl (ty := .int) rfl rfl rfl dX6_ask_27 (fun H locs hM hS => ?_)
  refine lv_aload_n hx hb dX6_ask_30 rfl (lv_at hl 0 rfl) ?_
  refine lv_iconst (v := (0 : Int32)) hx hb dX6_ask_31 (by decide) ?_
  refine m_putI S hK hM hS 2 (Nat.le_of_ble_eq_true rfl) rfl q1734 rfl (ty := .int) rfl rfl rfl dX6_ask_32 (fun H locs hM hS => ?_)
  refine lv_aload_n hx hb dX6_ask_35 rfl (lv_at hl 0 rfl) ?_
  refine lv_iconst (v := (-1 : Int32)) hx hb dX6_ask_36 (by decide) ?_
  refine m_putI S hK hM hS 4 (Nat.le_of_ble_eq_true rfl) rfl q1736 rfl (ty := .int) rfl rfl rfl dX6_ask_37 (fun H locs hM hS => ?_)
  refine lv_aload_n hx hb dX6_ask_40 rfl (lv_at hl 0 rfl) ?_
  refine lv_iconst (v := (0 : Int32)) hx hb dX6_ask_41 (by decide) ?_
  refine m_putI S hK hM hS 5 (Nat.le_of_ble_eq_true rfl) rfl q1737 rfl (ty := .int) rfl rfl rfl dX6_ask_42 (fun H locs hM hS => ?_)
  refine lv_aload_n hx hb dX6_ask_45 rfl (lv_at hl 0 rfl) ?_
  refine lv_iconst (v := (-1 : Int32)) hx hb dX6_ask_46 (by decide) ?_
  refine m_putI S hK hM hS 6 (Nat.le_of_ble_eq_true rfl) rfl q1738 rfl (ty := .int) rfl rfl rfl dX6_ask_47 (fun H locs hM hS => ?_)
  refine lv_aload_n hx hb dX6_ask_50 rfl (lv_at hl 0 rfl) ?_
  refine lv_iconst (v := (3 : Int32)) hx hb dX6_ask_51 (by decide) ?_
  refine m_putI S hK hM hS 53 (Nat.le_of_ble_eq_true rfl) rfl q1785 rfl (ty := .int) rfl rfl rfl dX6_ask_52 (fun H locs hM hS => ?_)
  refine lv_aload_n hx hb dX6_ask_55 rfl (lv_at hl 0 rfl) ?_
  refine lv_iconst (v := (0 : Int32)) hx hb dX6_ask_56 (by decide) ?_
  refine m_putI S hK hM hS 92 (Nat.le_of_ble_eq_true rfl) rfl q1824 rfl (ty := .int) rfl rfl rfl dX6_ask_57 (fun H locs hM hS => ?_)
  refine lv_aload_n hx hb dX6_ask_60 rfl (lv_at hl 0 rfl) ?_
  refine lv_iconst (v := (0 : Int32)) hx hb dX6_ask_61 (by decide) ?_
  refine m_putI S hK hM hS 94 (Nat.le_of_ble_eq_true rfl) rfl q1826 rfl (ty := .int) rfl rfl rfl dX6_ask_62 (fun H locs hM hS => ?_)
  refine lv_aload_n hx hb dX6_ask_65 rfl (lv_at hl 0 rfl) ?_
  refine lv_iconst (v := (0 : Int32)) hx hb dX6_ask_66 (by decide) ?_
  refine m_putI S hK hM hS 95 (Nat.le_of_ble_eq_true rfl) rfl q1827 rfl (ty := .int) rfl rfl rfl dX6_ask_67 (fun H locs hM hS => ?_)
  refine lv_aload_n hx hb dX6_ask_70 rfl (lv_at hl 0 rfl) ?_
  refine lv_iconst (v := (0 : Int32)) hx hb dX6_ask_71 (by decide) ?_
  refine m_putI S hK hM hS 96 (Nat.le_of_ble_eq_true rfl) rfl q1828 rfl (ty := .int) rfl rfl rfl dX6_ask_72 (fun H locs hM hS => ?_)
  refine lv_aload_n hx hb dX6_ask_75 rfl (lv_at hl 0 rfl) ?_
  replace h := ob h
  obtain ⟨x3, hx3, h⟩ := h
  refine kX6_qKind S hK hM hS hx3 ⟨Nat.le_of_ble_eq_true rfl, Nat.le_of_ble_eq_true rfl⟩ hl.1 (Nat.le_of_ble_eq_true rfl) dX6_ask_76 (fun H locs hM hS => ?_)
  refine lv_istore_n (lv' := [(2, .int x3.2), (0, .ref b), (1, .int a1)]) hx hb dX6_ask_79 rfl hl (by decide) rfl (fun ls hl => ?_)
  refine lv_aload_n hx hb dX6_ask_80 rfl (lv_at hl 1 rfl) ?_
  refine m_get S hK hM 5 (Nat.le_of_ble_eq_true rfl) q1737 (v := .int (x3.1.1 5)) rfl dX6_ask_81 ?_
  refine lv_if_ne (tgt := 99) hx hb dX6_ask_84 (by decide) (fun c4 => ?_) (fun c4 => ?_)
  · replace h := ie c4 h
    exact wX6_ask_99 S hr hlk hK x3.1 a1 x3.2 h _ _ hM hS _ (lv_sub hl [1, 2, 0] rfl)
  replace h := it c4 h
  refine lv_iload_n hx hb dX6_ask_87 rfl (lv_at hl 0 rfl) ?_
  refine lv_iconst (v := (3 : Int32)) hx hb dX6_ask_88 (by decide) ?_
  refine lv_icmp_ge (tgt := 99) hx hb dX6_ask_89 (by decide) (fun c5 => ?_) (fun c5 => ?_)
  · replace h := it c5 h
    exact wX6_ask_99 S hr hlk hK x3.1 a1 x3.2 h _ _ hM hS _ (lv_sub hl [1, 2, 0] rfl)
  replace h := ie c5 h
  refine lv_aload_n hx hb dX6_ask_92 rfl (lv_at hl 1 rfl) ?_
  replace h := ob h
  obtain ⟨x6, hx6, h⟩ := h
  refine kX6_qTest S hK hM hS hx6 ⟨Nat.le_of_ble_eq_true rfl, Nat.le_of_ble_eq_true rfl⟩ hl.1 (Nat.le_of_ble_eq_true rfl) dX6_ask_93 (fun H locs hM hS => ?_)
  refine lv_goto (tgt := 110) hx hb dX6_ask_96 (by decide) ?_
  exact wX6_ask_110 S hr hlk hK x6 a1 x3.2 h _ _ hM hS _ (lv_sub hl [1, 2, 0] rfl)
/-! checked([II)I -/
abbrev rmX6_checked : Room := { frames := 1, cells := 0, slots := 0, locals := 0 }
def fX6_checked_5 (σ : MS) : Nat → Nat → Int32 → Int32 → Int32 → Option (Int32)
  | 0, _, _, _, _ => none
  | n + 1, a0, a1, a2, a3 =>
    if a1 ≤ a3 then
      some a2
    else
    (aX σ a0 a3).bind fun v2 =>
    fX6_checked_5 σ n a0 a1 ((((3 : Int32) * a2) + v2) - (((3 : Int32) * a2) + v2) / (251 : Int32) * (251 : Int32)) (a3 + (1 : Int32))
def fX6_checked (σ : MS) (a0 : Nat) (a1 : Int32) : Option (Int32) :=
  fX6_checked_5 σ FU a0 a1 (53 : Int32) (0 : Int32)
set_option maxHeartbeats 4000000 in
theorem wX6_checked_5 {p : Program} {l : Launch} {e : Env} {s : State} {m : MethodId} {args : Array Value} {below : List Frame} {meth : Method} {c : Code} {G : mG} {b : Nat} {σ : MS} (S : CallFix p m c cX6_checked 4 s args lw_all RX6) (hr : meth.sig.returnType = some .int) (hlk : meth.locks = false) (hK : mK G s) {x : Int32} : ∀ (n : Nat) (a0 : Nat) (a1 : Int32) (a2 : Int32) (a3 : Int32), fX6_checked_5 σ n a0 a1 a2 a3 = some x → mGo p l e rmX6_checked s m args below meth c G b (MQ below (mQi G b (σ, x)) args s 0 0 (mB b)) 4 5 [(0, .ref (ma b a0)), (1, .int a1), (2, .int a2), (3, .int a3)] [] σ := by
  obtain ⟨hx, hb, hml, hown, hts⟩ := id S
  intro n
  induction n with
  | zero => intro a0 a1 a2 a3 h; cases h
  | succ n ih =>
    intro a0 a1 a2 a3 h H locs hM hS ls hl
    rw [fX6_checked_5] at h
    refine lv_iload_n hx hb dX6_checked_5 rfl (lv_at hl 3 rfl) ?_
    refine lv_iload_n hx hb dX6_checked_6 rfl (lv_at hl 1 rfl) ?_
    refine lv_icmp_ge (tgt := 28) hx hb dX6_checked_7 (by decide) (fun c1 => ?_) (fun c1 => ?_)
    · replace h := it c1 h
      refine lv_iload_n hx hb dX6_checked_28 rfl (lv_at hl 2 rfl) ?_
      exact m_iret' S hr hlk rfl hM hS h dX6_checked_29
    replace h := ie c1 h
    refine lv_iconst (v := (3 : Int32)) hx hb dX6_checked_10 (by decide) ?_
    refine lv_iload_n hx hb dX6_checked_11 rfl (lv_at hl 2 rfl) ?_
    refine lv_imul hx hb dX6_checked_12 ?_
    refine lv_aload_n hx hb dX6_checked_13 rfl (lv_at hl 0 rfl) ?_
    refine lv_iload_n hx hb dX6_checked_14 rfl (lv_at hl 3 rfl) ?_
    replace h := ob h
    obtain ⟨v2, hv2, h⟩ := h
    refine m_xald S hK hM a0 hv2 dX6_checked_15 ?_
    refine lv_iadd hx hb dX6_checked_16 ?_
    refine lv_sipush (v := (251 : Int32)) hx hb dX6_checked_17 (by decide) ?_
    refine lv_irem hx hb dX6_checked_20 (by decide) ?_
    refine lv_istore_n (lv' := [(2, .int ((((3 : Int32) * a2) + v2) - (((3 : Int32) * a2) + v2) / (251 : Int32) * (251 : Int32))), (0, .ref (ma b a0)), (1, .int a1), (3, .int a3)]) hx hb dX6_checked_21 rfl hl (by decide) rfl (fun ls hl => ?_)
    refine lv_iinc (v := (a3 + (1 : Int32))) (lv' := [(3, .int (a3 + (1 : Int32))), (2, .int ((((3 : Int32) * a2) + v2) - (((3 : Int32) * a2) + v2) / (251 : Int32) * (251 : Int32))), (0, .ref (ma b a0)), (1, .int a1)]) hx hb dX6_checked_22 hl (k := 3) rfl rfl (by decide) rfl (fun ls hl => ?_)
    refine lv_goto (tgt := 5) hx hb dX6_checked_25 (by decide) ?_
    exact ih a0 a1 ((((3 : Int32) * a2) + v2) - (((3 : Int32) * a2) + v2) / (251 : Int32) * (251 : Int32)) (a3 + (1 : Int32)) h _ _ hM hS _ (lv_sub hl [2, 3, 1, 0] rfl)
set_option maxHeartbeats 4000000 in
theorem metX6_checked {l : Launch} {G : mG} {b : Nat} {σ : MS} {a0 : Nat} {a1 : Int32} {x : Int32} (h : fX6_checked σ a0 a1 = some x) : Met l yX6_checked (ws_ yX6_checked cX6_checked 4 (some .int)) rmX6_checked (mP G b σ [.ref (ma b a0), .int a1]) (mQi G b (σ, x)) 0 0 (mB b) := by
  refine m_entry (by decide) rfl (Nat.le_of_ble_eq_true rfl) ?_
  intro p e s m below meth c S hr hlk hK hM hS ls hl
  replace hl : lv_has ls 4 [(0, .ref (ma b a0)), (1, .int a1)] := hl
  obtain ⟨hx, hb, hml, hown, hts⟩ := id S
  unfold fX6_checked at h
  refine lv_bipush (v := (53 : Int32)) hx hb dX6_checked_0 (by decide) ?_
  refine lv_istore_n (lv' := [(2, .int (53 : Int32)), (0, .ref (ma b a0)), (1, .int a1)]) hx hb dX6_checked_2 rfl hl (by decide) rfl (fun ls hl => ?_)
  refine lv_iconst (v := (0 : Int32)) hx hb dX6_checked_3 (by decide) ?_
  refine lv_istore_n (lv' := [(3, .int (0 : Int32)), (2, .int (53 : Int32)), (0, .ref (ma b a0)), (1, .int a1)]) hx hb dX6_checked_4 rfl hl (by decide) rfl (fun ls hl => ?_)
  exact wX6_checked_5 S hr hlk hK FU a0 a1 (53 : Int32) (0 : Int32) h _ _ hM hS _ (lv_sub hl [2, 3, 1, 0] rfl)
theorem kX6_checked {p : Program} {l : Launch} {e : Env} {R : Room} {s : State} {m : MethodId} {args : Array Value} {below : List Frame} {meth : Method} {c : Code} {H H0 : Heap} {locs : List Loc} {Q : State → Prop} {cc : ByteArray} {nL pc : Nat} {ls : Array Slot} {rest : List Value} {G : mG} {b : Nat} {σ : MS} {a0 : Nat} {a1 : Int32} {x : Int32} (S : CallFix p m c cc nL s args lw_all RX6) (hK : mK G s) (hM : MW G b σ H) (hS : va_S (mB b) H0 H locs) (hf : fX6_checked σ a0 a1 = some x) (hR : rmX6_checked.frames + 1 ≤ R.frames ∧ 8 + (4 + 11) + rmX6_checked.locals ≤ R.locals) (hsize : ls.size = nL) (hr : (rest.map fun v => v.category).sum ≤ 8) (hdg : decode cc pc = .ok (.invokestatic 694, 3)) (kk : ∀ (H1 : Heap) (locs1 : List Loc), MW G b σ H1 → va_S (mB b) H0 H1 locs1 → W p l e R s m args below meth c H1 locs1 0 0 Q (F0 m (pc + 3) ls (.int x :: rest))) : W p l e R s m args below meth c H locs 0 0 Q (F0 m pc ls (.int a1 :: .ref (ma b a0) :: rest)) :=
  m_cSi (As := [.ref (ma b a0), .int a1]) S hK hM hS (metX6_checked hf) (va_cwS 2 S.2.2.2.2 (lw_S q2597 q2598 q179 q2599) rfl rfl rfl (by decide +kernel) hR) ⟨Nat.zero_le _, Nat.zero_le _⟩ rfl hsize rfl hr hdg kk
/-! writes(I)V -/
abbrev rmX6_writes : Room := { frames := 1, cells := 0, slots := 0, locals := 0 }
def fX6_writes (σ : MS) (a1 : Int32) : Option (MS) :=
  (tI σ 101 (σ.1 102) a1).bind fun σ1 =>
  some (sI σ1 102 ((σ1.1 102) + (1 : Int32)))
set_option maxHeartbeats 4000000 in
theorem metX6_writes {l : Launch} {G : mG} {b : Nat} {σ : MS} {a1 : Int32} {x : MS} (h : fX6_writes σ a1 = some x) : Met l yX6_writes (ws_ yX6_writes cX6_writes 2 (none)) rmX6_writes (mP G b σ [.ref b, .int a1]) (mQv G b x) 0 0 (mB b) := by
  refine m_entry (by decide) rfl (Nat.le_of_ble_eq_true rfl) ?_
  intro p e s m below meth c S hr hlk hK hM hS ls hl
  replace hl : lv_has ls 2 [(0, .ref b), (1, .int a1)] := hl
  obtain ⟨hx, hb, hml, hown, hts⟩ := id S
  unfold fX6_writes at h
  refine lv_aload_n hx hb dX6_writes_0 rfl (lv_at hl 0 rfl) ?_
  refine m_get S hK hM 101 (Nat.le_of_ble_eq_true rfl) q1833 (v := .ref (ma b 101)) rfl dX6_writes_1 ?_
  refine lv_aload_n hx hb dX6_writes_4 rfl (lv_at hl 0 rfl) ?_
  refine m_get S hK hM 102 (Nat.le_of_ble_eq_true rfl) q1834 (v := .int (σ.1 102)) rfl dX6_writes_5 ?_
  refine lv_iload_n hx hb dX6_writes_8 rfl (lv_at hl 1 rfl) ?_
  replace h := ob h
  obtain ⟨σ1, hσ1, h⟩ := h
  refine m_iast S hK hM hS 101 rfl hσ1 dX6_writes_9 (fun H locs hM hS => ?_)
  refine lv_aload_n hx hb dX6_writes_10 rfl (lv_at hl 0 rfl) ?_
  refine lv_dup hx hb dX6_writes_11 rfl ?_
  refine m_get S hK hM 102 (Nat.le_of_ble_eq_true rfl) q1834 (v := .int (σ1.1 102)) rfl dX6_writes_12 ?_
  refine lv_iconst (v := (1 : Int32)) hx hb dX6_writes_15 (by decide) ?_
  refine lv_iadd hx hb dX6_writes_16 ?_
  refine m_putI S hK hM hS 102 (Nat.le_of_ble_eq_true rfl) rfl q1834 rfl (ty := .int) rfl rfl rfl dX6_writes_17 (fun H locs hM hS => ?_)
  exact m_vret S hr hlk hM hS h dX6_writes_20
theorem kX6_writes {p : Program} {l : Launch} {e : Env} {R : Room} {s : State} {m : MethodId} {args : Array Value} {below : List Frame} {meth : Method} {c : Code} {H H0 : Heap} {locs : List Loc} {Q : State → Prop} {cc : ByteArray} {nL pc : Nat} {ls : Array Slot} {rest : List Value} {G : mG} {b : Nat} {σ : MS} {a1 : Int32} {x : MS} (S : CallFix p m c cc nL s args lw_all RX6) (hK : mK G s) (hM : MW G b σ H) (hS : va_S (mB b) H0 H locs) (hf : fX6_writes σ a1 = some x) (hR : rmX6_writes.frames + 1 ≤ R.frames ∧ 8 + (2 + 11) + rmX6_writes.locals ≤ R.locals) (hsize : ls.size = nL) (hr : (rest.map fun v => v.category).sum ≤ 8) (hdg : decode cc pc = .ok (.invokevirtual 688, 3)) (kk : ∀ (H1 : Heap) (locs1 : List Loc), MW G b x H1 → va_S (mB b) H0 H1 locs1 → W p l e R s m args below meth c H1 locs1 0 0 Q (F0 m (pc + 3) ls (rest))) : W p l e R s m args below meth c H locs 0 0 Q (F0 m pc ls (.int a1 :: .ref b :: rest)) :=
  m_cVv (As := [.int a1]) S hK hM hS (metX6_writes hf) (cwV 1 S.2.2.2.2 (lw_V q2593 q2595 qs161 q179 q2596) rfl rfl rfl (by decide +kernel) hR) ⟨Nat.zero_le _, Nat.zero_le _⟩ rfl hsize rfl hr hdg kk
/-! writesTwo(I)V -/
abbrev rmX6_writesTwo : Room := { frames := 2, cells := 0, slots := 0, locals := 21 }
def fX6_writesTwo (σ : MS) (a1 : Int32) : Option (MS) :=
  (fX6_writes σ (a1 / (256 : Int32))).bind fun x1 =>
  (fX6_writes x1 (a1 - a1 / (256 : Int32) * (256 : Int32))).bind fun x2 =>
  some x2
set_option maxHeartbeats 4000000 in
theorem metX6_writesTwo {l : Launch} {G : mG} {b : Nat} {σ : MS} {a1 : Int32} {x : MS} (h : fX6_writesTwo σ a1 = some x) : Met l yX6_writesTwo (ws_ yX6_writesTwo cX6_writesTwo 2 (none)) rmX6_writesTwo (mP G b σ [.ref b, .int a1]) (mQv G b x) 0 0 (mB b) := by
  refine m_entry (by decide) rfl (Nat.le_of_ble_eq_true rfl) ?_
  intro p e s m below meth c S hr hlk hK hM hS ls hl
  replace hl : lv_has ls 2 [(0, .ref b), (1, .int a1)] := hl
  obtain ⟨hx, hb, hml, hown, hts⟩ := id S
  unfold fX6_writesTwo at h
  refine lv_aload_n hx hb dX6_writesTwo_0 rfl (lv_at hl 0 rfl) ?_
  refine lv_iload_n hx hb dX6_writesTwo_1 rfl (lv_at hl 1 rfl) ?_
  refine lv_sipush (v := (256 : Int32)) hx hb dX6_writesTwo_2 (by decide) ?_
  refine lv_idiv hx hb dX6_writesTwo_5 (by decide) ?_
  replace h := ob h
  obtain ⟨x1, hx1, h⟩ := h
  refine kX6_writes S hK hM hS hx1 ⟨Nat.le_of_ble_eq_true rfl, Nat.le_of_ble_eq_true rfl⟩ hl.1 (Nat.le_of_ble_eq_true rfl) dX6_writesTwo_6 (fun H locs hM hS => ?_)
  refine lv_aload_n hx hb dX6_writesTwo_9 rfl (lv_at hl 0 rfl) ?_
  refine lv_iload_n hx hb dX6_writesTwo_10 rfl (lv_at hl 1 rfl) ?_
  refine lv_sipush (v := (256 : Int32)) hx hb dX6_writesTwo_11 (by decide) ?_
  refine lv_irem hx hb dX6_writesTwo_14 (by decide) ?_
  replace h := ob h
  obtain ⟨x2, hx2, h⟩ := h
  refine kX6_writes S hK hM hS hx2 ⟨Nat.le_of_ble_eq_true rfl, Nat.le_of_ble_eq_true rfl⟩ hl.1 (Nat.le_of_ble_eq_true rfl) dX6_writesTwo_15 (fun H locs hM hS => ?_)
  exact m_vret S hr hlk hM hS h dX6_writesTwo_18
theorem kX6_writesTwo {p : Program} {l : Launch} {e : Env} {R : Room} {s : State} {m : MethodId} {args : Array Value} {below : List Frame} {meth : Method} {c : Code} {H H0 : Heap} {locs : List Loc} {Q : State → Prop} {cc : ByteArray} {nL pc : Nat} {ls : Array Slot} {rest : List Value} {G : mG} {b : Nat} {σ : MS} {a1 : Int32} {x : MS} (S : CallFix p m c cc nL s args lw_all RX6) (hK : mK G s) (hM : MW G b σ H) (hS : va_S (mB b) H0 H locs) (hf : fX6_writesTwo σ a1 = some x) (hR : rmX6_writesTwo.frames + 1 ≤ R.frames ∧ 8 + (2 + 11) + rmX6_writesTwo.locals ≤ R.locals) (hsize : ls.size = nL) (hr : (rest.map fun v => v.category).sum ≤ 8) (hdg : decode cc pc = .ok (.invokevirtual 691, 3)) (kk : ∀ (H1 : Heap) (locs1 : List Loc), MW G b x H1 → va_S (mB b) H0 H1 locs1 → W p l e R s m args below meth c H1 locs1 0 0 Q (F0 m (pc + 3) ls (rest))) : W p l e R s m args below meth c H locs 0 0 Q (F0 m pc ls (.int a1 :: .ref b :: rest)) :=
  m_cVv (As := [.int a1]) S hK hM hS (metX6_writesTwo hf) (cwV 1 S.2.2.2.2 (lw_V q2589 q2591 qs160 q179 q2592) rfl rfl rfl (by decide +kernel) hR) ⟨Nat.zero_le _, Nat.zero_le _⟩ rfl hsize rfl hr hdg kk
/-! image()I -/
abbrev rmX6_image : Room := { frames := 3, cells := 0, slots := 0, locals := 44 }
def fX6_image_68 (k27 : MS → Int32 → Option (MS × Int32)) : Nat → MS → Int32 → Int32 → Option (MS × Int32)
  | 0, _, _, _ => none
  | n + 1, σ, a1, a2 =>
    (fX6_filmMany σ).bind fun x1 =>
    if x1 ≤ a2 then
      k27 σ (a1 + (1 : Int32))
    else
    (fX6_seenBy σ a1 a2).bind fun x3 =>
    (fX6_writes σ x3).bind fun x4 =>
    fX6_image_68 k27 n x4 a1 (a2 + (1 : Int32))
def fX6_image_37 (k27 : MS → Int32 → Option (MS × Int32)) : Nat → MS → Int32 → Int32 → Option (MS × Int32)
  | 0, _, _, _ => none
  | n + 1, σ, a1, a2 =>
    (fX6_kindMany σ).bind fun x1 =>
    if x1 ≤ a2 then
      fX6_image_68 k27 FU σ a1 (0 : Int32)
    else
    (fX6_tasteAt σ a1 a2).bind fun x3 =>
    (aI σ 54 x3).bind fun v4 =>
    (fX6_writesTwo σ v4).bind fun x5 =>
    fX6_image_37 k27 n x5 a1 (a2 + (1 : Int32))
def fX6_image_100 : Nat → MS → Int32 → Option (MS × Int32)
  | 0, _, _ => none
  | n + 1, σ, a1 =>
    (fX6_personMany σ).bind fun x1 =>
    if x1 ≤ a1 then
      (fX6_checked σ 101 (σ.1 102)).bind fun x3 =>
      (fX6_writes σ x3).bind fun x4 =>
      some (x4, (x4.1 102))
    else
    (aI σ 54 ((86 : Int32) + ((2 : Int32) * a1))).bind fun v5 =>
    (fX6_writes σ v5).bind fun x6 =>
    (fX6_hoursOf x6 a1).bind fun x7 =>
    (fX6_writesTwo x6 x7).bind fun x8 =>
    fX6_image_100 n x8 (a1 + (1 : Int32))
def fX6_image_27 : Nat → MS → Int32 → Option (MS × Int32)
  | 0, _, _ => none
  | n + 1, σ, a1 =>
    (fX6_personMany σ).bind fun x1 =>
    if x1 < a1 then
      fX6_image_100 FU σ (0 : Int32)
    else
    fX6_image_37 (fun σ' b1 => fX6_image_27 n σ' b1) FU σ a1 (0 : Int32)
def fX6_image (σ : MS) : Option (MS × Int32) :=
  (aI (sI σ 102 (0 : Int32)) 54 (0 : Int32)).bind fun v1 =>
  (fX6_writesTwo (sI σ 102 (0 : Int32)) v1).bind fun x2 =>
  (aI x2 54 (1 : Int32)).bind fun v3 =>
  (fX6_writes x2 v3).bind fun x4 =>
  fX6_image_27 FU x4 (0 : Int32)
set_option maxHeartbeats 4000000 in
theorem wX6_image_68 {p : Program} {l : Launch} {e : Env} {s : State} {m : MethodId} {args : Array Value} {below : List Frame} {meth : Method} {c : Code} {G : mG} {b : Nat} (S : CallFix p m c cX6_image 3 s args lw_all RX6) (hr : meth.sig.returnType = some .int) (hlk : meth.locks = false) (hK : mK G s) {x : MS × Int32} {k27 : MS → Int32 → Option (MS × Int32)} (hk27 : ∀ σ a1, k27 σ a1 = some x → mGo p l e rmX6_image s m args below meth c G b (MQ below (mQi G b x) args s 0 0 (mB b)) 3 27 [(0, .ref b), (1, .int a1)] [] σ) : ∀ (n : Nat) (σ : MS) (a1 : Int32) (a2 : Int32), fX6_image_68 k27 n σ a1 a2 = some x → mGo p l e rmX6_image s m args below meth c G b (MQ below (mQi G b x) args s 0 0 (mB b)) 3 68 [(0, .ref b), (1, .int a1), (2, .int a2)] [] σ := by
  obtain ⟨hx, hb, hml, hown, hts⟩ := id S
  intro n
  induction n with
  | zero => intro σ a1 a2 h; cases h
  | succ n ih =>
    intro σ a1 a2 h H locs hM hS ls hl
    rw [fX6_image_68] at h
    refine lv_iload_n hx hb dX6_image_68 rfl (lv_at hl 2 rfl) ?_
    refine lv_aload_n hx hb dX6_image_69 rfl (lv_at hl 0 rfl) ?_
    replace h := ob h
    obtain ⟨x1, hx1, h⟩ := h
    refine kX6_filmMany S hK hM hS hx1 ⟨Nat.le_of_ble_eq_true rfl, Nat.le_of_ble_eq_true rfl⟩ hl.1 (Nat.le_of_ble_eq_true rfl) dX6_image_70 (fun H locs hM hS => ?_)
    refine lv_icmp_ge (tgt := 92) hx hb dX6_image_73 (by decide) (fun c2 => ?_) (fun c2 => ?_)
    · replace h := it c2 h
      refine lv_iinc (v := (a1 + (1 : Int32))) (lv' := [(1, .int (a1 + (1 : Int32))), (0, .ref b), (2, .int a2)]) hx hb dX6_image_92 hl (k := 1) rfl rfl (by decide) rfl (fun ls hl => ?_)
      refine lv_goto (tgt := 27) hx hb dX6_image_95 (by decide) ?_
      exact hk27 σ (a1 + (1 : Int32)) h _ _ hM hS _ (lv_sub hl [1, 0] rfl)
    replace h := ie c2 h
    refine lv_aload_n hx hb dX6_image_76 rfl (lv_at hl 0 rfl) ?_
    refine lv_aload_n hx hb dX6_image_77 rfl (lv_at hl 0 rfl) ?_
    refine lv_iload_n hx hb dX6_image_78 rfl (lv_at hl 1 rfl) ?_
    refine lv_iload_n hx hb dX6_image_79 rfl (lv_at hl 2 rfl) ?_
    replace h := ob h
    obtain ⟨x3, hx3, h⟩ := h
    refine kX6_seenBy S hK hM hS hx3 ⟨Nat.le_of_ble_eq_true rfl, Nat.le_of_ble_eq_true rfl⟩ hl.1 (Nat.le_of_ble_eq_true rfl) dX6_image_80 (fun H locs hM hS => ?_)
    replace h := ob h
    obtain ⟨x4, hx4, h⟩ := h
    refine kX6_writes S hK hM hS hx4 ⟨Nat.le_of_ble_eq_true rfl, Nat.le_of_ble_eq_true rfl⟩ hl.1 (Nat.le_of_ble_eq_true rfl) dX6_image_83 (fun H locs hM hS => ?_)
    refine lv_iinc (v := (a2 + (1 : Int32))) (lv' := [(2, .int (a2 + (1 : Int32))), (0, .ref b), (1, .int a1)]) hx hb dX6_image_86 hl (k := 2) rfl rfl (by decide) rfl (fun ls hl => ?_)
    refine lv_goto (tgt := 68) hx hb dX6_image_89 (by decide) ?_
    exact ih x4 a1 (a2 + (1 : Int32)) h _ _ hM hS _ (lv_sub hl [1, 2, 0] rfl)
set_option maxHeartbeats 4000000 in
theorem wX6_image_37 {p : Program} {l : Launch} {e : Env} {s : State} {m : MethodId} {args : Array Value} {below : List Frame} {meth : Method} {c : Code} {G : mG} {b : Nat} (S : CallFix p m c cX6_image 3 s args lw_all RX6) (hr : meth.sig.returnType = some .int) (hlk : meth.locks = false) (hK : mK G s) {x : MS × Int32} {k27 : MS → Int32 → Option (MS × Int32)} (hk27 : ∀ σ a1, k27 σ a1 = some x → mGo p l e rmX6_image s m args below meth c G b (MQ below (mQi G b x) args s 0 0 (mB b)) 3 27 [(0, .ref b), (1, .int a1)] [] σ) : ∀ (n : Nat) (σ : MS) (a1 : Int32) (a2 : Int32), fX6_image_37 k27 n σ a1 a2 = some x → mGo p l e rmX6_image s m args below meth c G b (MQ below (mQi G b x) args s 0 0 (mB b)) 3 37 [(0, .ref b), (1, .int a1), (2, .int a2)] [] σ := by
  obtain ⟨hx, hb, hml, hown, hts⟩ := id S
  intro n
  induction n with
  | zero => intro σ a1 a2 h; cases h
  | succ n ih =>
    intro σ a1 a2 h H locs hM hS ls hl
    rw [fX6_image_37] at h
    refine lv_iload_n hx hb dX6_image_37 rfl (lv_at hl 2 rfl) ?_
    refine lv_aload_n hx hb dX6_image_38 rfl (lv_at hl 0 rfl) ?_
    replace h := ob h
    obtain ⟨x1, hx1, h⟩ := h
    refine kX6_kindMany S hK hM hS hx1 ⟨Nat.le_of_ble_eq_true rfl, Nat.le_of_ble_eq_true rfl⟩ hl.1 (Nat.le_of_ble_eq_true rfl) dX6_image_39 (fun H locs hM hS => ?_)
    refine lv_icmp_ge (tgt := 66) hx hb dX6_image_42 (by decide) (fun c2 => ?_) (fun c2 => ?_)
    · replace h := it c2 h
      refine lv_iconst (v := (0 : Int32)) hx hb dX6_image_66 (by decide) ?_
      refine lv_istore_n (lv' := [(2, .int (0 : Int32)), (0, .ref b), (1, .int a1)]) hx hb dX6_image_67 rfl hl (by decide) rfl (fun ls hl => ?_)
      exact wX6_image_68 S hr hlk hK hk27 FU σ a1 (0 : Int32) h _ _ hM hS _ (lv_sub hl [1, 2, 0] rfl)
    replace h := ie c2 h
    refine lv_aload_n hx hb dX6_image_45 rfl (lv_at hl 0 rfl) ?_
    refine lv_aload_n hx hb dX6_image_46 rfl (lv_at hl 0 rfl) ?_
    refine m_get S hK hM 54 (Nat.le_of_ble_eq_true rfl) q1786 (v := .ref (ma b 54)) rfl dX6_image_47 ?_
    refine lv_aload_n hx hb dX6_image_50 rfl (lv_at hl 0 rfl) ?_
    refine lv_iload_n hx hb dX6_image_51 rfl (lv_at hl 1 rfl) ?_
    refine lv_iload_n hx hb dX6_image_52 rfl (lv_at hl 2 rfl) ?_
    replace h := ob h
    obtain ⟨x3, hx3, h⟩ := h
    refine kX6_tasteAt S hK hM hS hx3 ⟨Nat.le_of_ble_eq_true rfl, Nat.le_of_ble_eq_true rfl⟩ hl.1 (Nat.le_of_ble_eq_true rfl) dX6_image_53 (fun H locs hM hS => ?_)
    replace h := ob h
    obtain ⟨v4, hv4, h⟩ := h
    refine m_iald S hK hM 54 rfl hv4 dX6_image_56 ?_
    replace h := ob h
    obtain ⟨x5, hx5, h⟩ := h
    refine kX6_writesTwo S hK hM hS hx5 ⟨Nat.le_of_ble_eq_true rfl, Nat.le_of_ble_eq_true rfl⟩ hl.1 (Nat.le_of_ble_eq_true rfl) dX6_image_57 (fun H locs hM hS => ?_)
    refine lv_iinc (v := (a2 + (1 : Int32))) (lv' := [(2, .int (a2 + (1 : Int32))), (0, .ref b), (1, .int a1)]) hx hb dX6_image_60 hl (k := 2) rfl rfl (by decide) rfl (fun ls hl => ?_)
    refine lv_goto (tgt := 37) hx hb dX6_image_63 (by decide) ?_
    exact ih x5 a1 (a2 + (1 : Int32)) h _ _ hM hS _ (lv_sub hl [1, 2, 0] rfl)
set_option maxHeartbeats 4000000 in
theorem wX6_image_100 {p : Program} {l : Launch} {e : Env} {s : State} {m : MethodId} {args : Array Value} {below : List Frame} {meth : Method} {c : Code} {G : mG} {b : Nat} (S : CallFix p m c cX6_image 3 s args lw_all RX6) (hr : meth.sig.returnType = some .int) (hlk : meth.locks = false) (hK : mK G s) {x : MS × Int32} : ∀ (n : Nat) (σ : MS) (a1 : Int32), fX6_image_100 n σ a1 = some x → mGo p l e rmX6_image s m args below meth c G b (MQ below (mQi G b x) args s 0 0 (mB b)) 3 100 [(0, .ref b), (1, .int a1)] [] σ := by
  obtain ⟨hx, hb, hml, hown, hts⟩ := id S
  intro n
  induction n with
  | zero => intro σ a1 h; cases h
  | succ n ih =>
    intro σ a1 h H locs hM hS ls hl
    rw [fX6_image_100] at h
    refine lv_iload_n hx hb dX6_image_100 rfl (lv_at hl 1 rfl) ?_
    refine lv_aload_n hx hb dX6_image_101 rfl (lv_at hl 0 rfl) ?_
    replace h := ob h
    obtain ⟨x1, hx1, h⟩ := h
    refine kX6_personMany S hK hM hS hx1 ⟨Nat.le_of_ble_eq_true rfl, Nat.le_of_ble_eq_true rfl⟩ hl.1 (Nat.le_of_ble_eq_true rfl) dX6_image_102 (fun H locs hM hS => ?_)
    refine lv_icmp_ge (tgt := 138) hx hb dX6_image_105 (by decide) (fun c2 => ?_) (fun c2 => ?_)
    · replace h := it c2 h
      refine lv_aload_n hx hb dX6_image_138 rfl (lv_at hl 0 rfl) ?_
      refine lv_aload_n hx hb dX6_image_139 rfl (lv_at hl 0 rfl) ?_
      refine m_get S hK hM 101 (Nat.le_of_ble_eq_true rfl) q1833 (v := .ref (ma b 101)) rfl dX6_image_140 ?_
      refine lv_aload_n hx hb dX6_image_143 rfl (lv_at hl 0 rfl) ?_
      refine m_get S hK hM 102 (Nat.le_of_ble_eq_true rfl) q1834 (v := .int (σ.1 102)) rfl dX6_image_144 ?_
      replace h := ob h
      obtain ⟨x3, hx3, h⟩ := h
      refine kX6_checked S hK hM hS hx3 ⟨Nat.le_of_ble_eq_true rfl, Nat.le_of_ble_eq_true rfl⟩ hl.1 (Nat.le_of_ble_eq_true rfl) dX6_image_147 (fun H locs hM hS => ?_)
      replace h := ob h
      obtain ⟨x4, hx4, h⟩ := h
      refine kX6_writes S hK hM hS hx4 ⟨Nat.le_of_ble_eq_true rfl, Nat.le_of_ble_eq_true rfl⟩ hl.1 (Nat.le_of_ble_eq_true rfl) dX6_image_150 (fun H locs hM hS => ?_)
      refine lv_aload_n hx hb dX6_image_153 rfl (lv_at hl 0 rfl) ?_
      refine m_get S hK hM 102 (Nat.le_of_ble_eq_true rfl) q1834 (v := .int (x4.1 102)) rfl dX6_image_154 ?_
      exact m_iret S hr hlk rfl hM hS h dX6_image_157
    replace h := ie c2 h
    refine lv_aload_n hx hb dX6_image_108 rfl (lv_at hl 0 rfl) ?_
    refine lv_aload_n hx hb dX6_image_109 rfl (lv_at hl 0 rfl) ?_
    refine m_get S hK hM 54 (Nat.le_of_ble_eq_true rfl) q1786 (v := .ref (ma b 54)) rfl dX6_image_110 ?_
    refine lv_bipush (v := (86 : Int32)) hx hb dX6_image_113 (by decide) ?_
    refine lv_iconst (v := (2 : Int32)) hx hb dX6_image_115 (by decide) ?_
    refine lv_iload_n hx hb dX6_image_116 rfl (lv_at hl 1 rfl) ?_
    refine lv_imul hx hb dX6_image_117 ?_
    refine lv_iadd hx hb dX6_image_118 ?_
    replace h := ob h
    obtain ⟨v5, hv5, h⟩ := h
    refine m_iald S hK hM 54 rfl hv5 dX6_image_119 ?_
    replace h := ob h
    obtain ⟨x6, hx6, h⟩ := h
    refine kX6_writes S hK hM hS hx6 ⟨Nat.le_of_ble_eq_true rfl, Nat.le_of_ble_eq_true rfl⟩ hl.1 (Nat.le_of_ble_eq_true rfl) dX6_image_120 (fun H locs hM hS => ?_)
    refine lv_aload_n hx hb dX6_image_123 rfl (lv_at hl 0 rfl) ?_
    refine lv_aload_n hx hb dX6_image_124 rfl (lv_at hl 0 rfl) ?_
    refine lv_iload_n hx hb dX6_image_125 rfl (lv_at hl 1 rfl) ?_
    replace h := ob h
    obtain ⟨x7, hx7, h⟩ := h
    refine kX6_hoursOf S hK hM hS hx7 ⟨Nat.le_of_ble_eq_true rfl, Nat.le_of_ble_eq_true rfl⟩ hl.1 (Nat.le_of_ble_eq_true rfl) dX6_image_126 (fun H locs hM hS => ?_)
    replace h := ob h
    obtain ⟨x8, hx8, h⟩ := h
    refine kX6_writesTwo S hK hM hS hx8 ⟨Nat.le_of_ble_eq_true rfl, Nat.le_of_ble_eq_true rfl⟩ hl.1 (Nat.le_of_ble_eq_true rfl) dX6_image_129 (fun H locs hM hS => ?_)
    refine lv_iinc (v := (a1 + (1 : Int32))) (lv' := [(1, .int (a1 + (1 : Int32))), (0, .ref b)]) hx hb dX6_image_132 hl (k := 1) rfl rfl (by decide) rfl (fun ls hl => ?_)
    refine lv_goto (tgt := 100) hx hb dX6_image_135 (by decide) ?_
    exact ih x8 (a1 + (1 : Int32)) h _ _ hM hS _ (lv_sub hl [1, 0] rfl)
set_option maxHeartbeats 4000000 in
theorem wX6_image_27 {p : Program} {l : Launch} {e : Env} {s : State} {m : MethodId} {args : Array Value} {below : List Frame} {meth : Method} {c : Code} {G : mG} {b : Nat} (S : CallFix p m c cX6_image 3 s args lw_all RX6) (hr : meth.sig.returnType = some .int) (hlk : meth.locks = false) (hK : mK G s) {x : MS × Int32} : ∀ (n : Nat) (σ : MS) (a1 : Int32), fX6_image_27 n σ a1 = some x → mGo p l e rmX6_image s m args below meth c G b (MQ below (mQi G b x) args s 0 0 (mB b)) 3 27 [(0, .ref b), (1, .int a1)] [] σ := by
  obtain ⟨hx, hb, hml, hown, hts⟩ := id S
  intro n
  induction n with
  | zero => intro σ a1 h; cases h
  | succ n ih =>
    intro σ a1 h H locs hM hS ls hl
    rw [fX6_image_27] at h
    refine lv_iload_n hx hb dX6_image_27 rfl (lv_at hl 1 rfl) ?_
    refine lv_aload_n hx hb dX6_image_28 rfl (lv_at hl 0 rfl) ?_
    replace h := ob h
    obtain ⟨x1, hx1, h⟩ := h
    refine kX6_personMany S hK hM hS hx1 ⟨Nat.le_of_ble_eq_true rfl, Nat.le_of_ble_eq_true rfl⟩ hl.1 (Nat.le_of_ble_eq_true rfl) dX6_image_29 (fun H locs hM hS => ?_)
    refine lv_icmp_gt (tgt := 98) hx hb dX6_image_32 (by decide) (fun c2 => ?_) (fun c2 => ?_)
    · replace h := it c2 h
      refine lv_iconst (v := (0 : Int32)) hx hb dX6_image_98 (by decide) ?_
      refine lv_istore_n (lv' := [(1, .int (0 : Int32)), (0, .ref b)]) hx hb dX6_image_99 rfl hl (by decide) rfl (fun ls hl => ?_)
      exact wX6_image_100 S hr hlk hK FU σ (0 : Int32) h _ _ hM hS _ (lv_sub hl [1, 0] rfl)
    replace h := ie c2 h
    refine lv_iconst (v := (0 : Int32)) hx hb dX6_image_35 (by decide) ?_
    refine lv_istore_n (lv' := [(2, .int (0 : Int32)), (0, .ref b), (1, .int a1)]) hx hb dX6_image_36 rfl hl (by decide) rfl (fun ls hl => ?_)
    exact wX6_image_37 S hr hlk hK ih FU σ a1 (0 : Int32) h _ _ hM hS _ (lv_sub hl [1, 2, 0] rfl)
set_option maxHeartbeats 4000000 in
theorem metX6_image {l : Launch} {G : mG} {b : Nat} {σ : MS} {x : MS × Int32} (h : fX6_image σ = some x) : Met l yX6_image (ws_ yX6_image cX6_image 3 (some .int)) rmX6_image (mP G b σ [.ref b]) (mQi G b x) 0 0 (mB b) := by
  refine m_entry (by decide) rfl (Nat.le_of_ble_eq_true rfl) ?_
  intro p e s m below meth c S hr hlk hK hM hS ls hl
  replace hl : lv_has ls 3 [(0, .ref b)] := hl
  obtain ⟨hx, hb, hml, hown, hts⟩ := id S
  unfold fX6_image at h
  refine lv_aload_n hx hb dX6_image_0 rfl (lv_at hl 0 rfl) ?_
  refine lv_iconst (v := (0 : Int32)) hx hb dX6_image_1 (by decide) ?_
  refine m_putI S hK hM hS 102 (Nat.le_of_ble_eq_true rfl) rfl q1834 rfl (ty := .int) rfl rfl rfl dX6_image_2 (fun H locs hM hS => ?_)
  refine lv_aload_n hx hb dX6_image_5 rfl (lv_at hl 0 rfl) ?_
  refine lv_aload_n hx hb dX6_image_6 rfl (lv_at hl 0 rfl) ?_
  refine m_get S hK hM 54 (Nat.le_of_ble_eq_true rfl) q1786 (v := .ref (ma b 54)) rfl dX6_image_7 ?_
  refine lv_iconst (v := (0 : Int32)) hx hb dX6_image_10 (by decide) ?_
  replace h := ob h
  obtain ⟨v1, hv1, h⟩ := h
  refine m_iald S hK hM 54 rfl hv1 dX6_image_11 ?_
  replace h := ob h
  obtain ⟨x2, hx2, h⟩ := h
  refine kX6_writesTwo S hK hM hS hx2 ⟨Nat.le_of_ble_eq_true rfl, Nat.le_of_ble_eq_true rfl⟩ hl.1 (Nat.le_of_ble_eq_true rfl) dX6_image_12 (fun H locs hM hS => ?_)
  refine lv_aload_n hx hb dX6_image_15 rfl (lv_at hl 0 rfl) ?_
  refine lv_aload_n hx hb dX6_image_16 rfl (lv_at hl 0 rfl) ?_
  refine m_get S hK hM 54 (Nat.le_of_ble_eq_true rfl) q1786 (v := .ref (ma b 54)) rfl dX6_image_17 ?_
  refine lv_iconst (v := (1 : Int32)) hx hb dX6_image_20 (by decide) ?_
  replace h := ob h
  obtain ⟨v3, hv3, h⟩ := h
  refine m_iald S hK hM 54 rfl hv3 dX6_image_21 ?_
  replace h := ob h
  obtain ⟨x4, hx4, h⟩ := h
  refine kX6_writes S hK hM hS hx4 ⟨Nat.le_of_ble_eq_true rfl, Nat.le_of_ble_eq_true rfl⟩ hl.1 (Nat.le_of_ble_eq_true rfl) dX6_image_22 (fun H locs hM hS => ?_)
  refine lv_iconst (v := (0 : Int32)) hx hb dX6_image_25 (by decide) ?_
  refine lv_istore_n (lv' := [(1, .int (0 : Int32)), (0, .ref b)]) hx hb dX6_image_26 rfl hl (by decide) rfl (fun ls hl => ?_)
  exact wX6_image_27 S hr hlk hK FU x4 (0 : Int32) h _ _ hM hS _ (lv_sub hl [1, 0] rfl)
/-! octet(I)I -/
abbrev rmX6_octet : Room := { frames := 1, cells := 0, slots := 0, locals := 0 }
def fX6_octet (σ : MS) (a1 : Int32) : Option (Int32) :=
  if a1 < 0 then
    some (-1 : Int32)
  else
  if (σ.1 102) ≤ a1 then
    some (-1 : Int32)
  else
  (aI σ 101 a1).bind fun v3 =>
  some v3
set_option maxHeartbeats 4000000 in
theorem metX6_octet {l : Launch} {G : mG} {b : Nat} {σ : MS} {a1 : Int32} {x : Int32} (h : fX6_octet σ a1 = some x) : Met l yX6_octet (ws_ yX6_octet cX6_octet 2 (some .int)) rmX6_octet (mP G b σ [.ref b, .int a1]) (mQi G b (σ, x)) 0 0 (mB b) := by
  refine m_entry (by decide) rfl (Nat.le_of_ble_eq_true rfl) ?_
  intro p e s m below meth c S hr hlk hK hM hS ls hl
  replace hl : lv_has ls 2 [(0, .ref b), (1, .int a1)] := hl
  obtain ⟨hx, hb, hml, hown, hts⟩ := id S
  unfold fX6_octet at h
  refine lv_iload_n hx hb dX6_octet_0 rfl (lv_at hl 1 rfl) ?_
  refine lv_if_lt (tgt := 21) hx hb dX6_octet_1 (by decide) (fun c1 => ?_) (fun c1 => ?_)
  · replace h := it c1 h
    refine lv_iconst (v := (-1 : Int32)) hx hb dX6_octet_21 (by decide) ?_
    exact m_iret' S hr hlk rfl hM hS h dX6_octet_22
  replace h := ie c1 h
  refine lv_iload_n hx hb dX6_octet_4 rfl (lv_at hl 1 rfl) ?_
  refine lv_aload_n hx hb dX6_octet_5 rfl (lv_at hl 0 rfl) ?_
  refine m_get S hK hM 102 (Nat.le_of_ble_eq_true rfl) q1834 (v := .int (σ.1 102)) rfl dX6_octet_6 ?_
  refine lv_icmp_ge (tgt := 21) hx hb dX6_octet_9 (by decide) (fun c2 => ?_) (fun c2 => ?_)
  · replace h := it c2 h
    refine lv_iconst (v := (-1 : Int32)) hx hb dX6_octet_21 (by decide) ?_
    exact m_iret' S hr hlk rfl hM hS h dX6_octet_22
  replace h := ie c2 h
  refine lv_aload_n hx hb dX6_octet_12 rfl (lv_at hl 0 rfl) ?_
  refine m_get S hK hM 101 (Nat.le_of_ble_eq_true rfl) q1833 (v := .ref (ma b 101)) rfl dX6_octet_13 ?_
  refine lv_iload_n hx hb dX6_octet_16 rfl (lv_at hl 1 rfl) ?_
  replace h := ob h
  obtain ⟨v3, hv3, h⟩ := h
  refine m_iald S hK hM 101 rfl hv3 dX6_octet_17 ?_
  refine lv_goto (tgt := 22) hx hb dX6_octet_18 (by decide) ?_
  exact m_iret' S hr hlk rfl hM hS h dX6_octet_22
/-! profileFrom(I)I -/
abbrev rmX6_profileFrom : Room := { frames := 2, cells := 0, slots := 0, locals := 20 }
def fX6_profileFrom (σ : MS) (a1 : Int32) : Option (Int32) :=
  (fX6_kindMany σ).bind fun x1 =>
  (fX6_filmMany σ).bind fun x2 =>
  some ((3 : Int32) + (a1 * (((2 : Int32) * x1) + x2)))
set_option maxHeartbeats 4000000 in
theorem metX6_profileFrom {l : Launch} {G : mG} {b : Nat} {σ : MS} {a1 : Int32} {x : Int32} (h : fX6_profileFrom σ a1 = some x) : Met l yX6_profileFrom (ws_ yX6_profileFrom cX6_profileFrom 2 (some .int)) rmX6_profileFrom (mP G b σ [.ref b, .int a1]) (mQi G b (σ, x)) 0 0 (mB b) := by
  refine m_entry (by decide) rfl (Nat.le_of_ble_eq_true rfl) ?_
  intro p e s m below meth c S hr hlk hK hM hS ls hl
  replace hl : lv_has ls 2 [(0, .ref b), (1, .int a1)] := hl
  obtain ⟨hx, hb, hml, hown, hts⟩ := id S
  unfold fX6_profileFrom at h
  refine lv_iconst (v := (3 : Int32)) hx hb dX6_profileFrom_0 (by decide) ?_
  refine lv_iload_n hx hb dX6_profileFrom_1 rfl (lv_at hl 1 rfl) ?_
  refine lv_iconst (v := (2 : Int32)) hx hb dX6_profileFrom_2 (by decide) ?_
  refine lv_aload_n hx hb dX6_profileFrom_3 rfl (lv_at hl 0 rfl) ?_
  replace h := ob h
  obtain ⟨x1, hx1, h⟩ := h
  refine kX6_kindMany S hK hM hS hx1 ⟨Nat.le_of_ble_eq_true rfl, Nat.le_of_ble_eq_true rfl⟩ hl.1 (Nat.le_of_ble_eq_true rfl) dX6_profileFrom_4 (fun H locs hM hS => ?_)
  refine lv_imul hx hb dX6_profileFrom_7 ?_
  refine lv_aload_n hx hb dX6_profileFrom_8 rfl (lv_at hl 0 rfl) ?_
  replace h := ob h
  obtain ⟨x2, hx2, h⟩ := h
  refine kX6_filmMany S hK hM hS hx2 ⟨Nat.le_of_ble_eq_true rfl, Nat.le_of_ble_eq_true rfl⟩ hl.1 (Nat.le_of_ble_eq_true rfl) dX6_profileFrom_9 (fun H locs hM hS => ?_)
  refine lv_iadd hx hb dX6_profileFrom_12 ?_
  refine lv_imul hx hb dX6_profileFrom_13 ?_
  refine lv_iadd hx hb dX6_profileFrom_14 ?_
  exact m_iret' S hr hlk rfl hM hS h dX6_profileFrom_15
theorem kX6_profileFrom {p : Program} {l : Launch} {e : Env} {R : Room} {s : State} {m : MethodId} {args : Array Value} {below : List Frame} {meth : Method} {c : Code} {H H0 : Heap} {locs : List Loc} {Q : State → Prop} {cc : ByteArray} {nL pc : Nat} {ls : Array Slot} {rest : List Value} {G : mG} {b : Nat} {σ : MS} {a1 : Int32} {x : Int32} (S : CallFix p m c cc nL s args lw_all RX6) (hK : mK G s) (hM : MW G b σ H) (hS : va_S (mB b) H0 H locs) (hf : fX6_profileFrom σ a1 = some x) (hR : rmX6_profileFrom.frames + 1 ≤ R.frames ∧ 8 + (2 + 11) + rmX6_profileFrom.locals ≤ R.locals) (hsize : ls.size = nL) (hr : (rest.map fun v => v.category).sum ≤ 8) (hdg : decode cc pc = .ok (.invokevirtual 698, 3)) (kk : ∀ (H1 : Heap) (locs1 : List Loc), MW G b σ H1 → va_S (mB b) H0 H1 locs1 → W p l e R s m args below meth c H1 locs1 0 0 Q (F0 m (pc + 3) ls (.int x :: rest))) : W p l e R s m args below meth c H locs 0 0 Q (F0 m pc ls (.int a1 :: .ref b :: rest)) :=
  m_cVi (As := [.int a1]) S hK hM hS (metX6_profileFrom hf) (cwV 1 S.2.2.2.2 (lw_V q2612 q2614 qs163 q179 q2615) rfl rfl rfl (by decide +kernel) hR) ⟨Nat.zero_le _, Nat.zero_le _⟩ rfl hsize rfl hr hdg kk
/-! twoAt(I)I -/
abbrev rmX6_twoAt : Room := { frames := 1, cells := 0, slots := 0, locals := 0 }
def fX6_twoAt (σ : MS) (a1 : Int32) : Option (Int32) :=
  (aI σ 0 a1).bind fun v1 =>
  (aI σ 0 (a1 + (1 : Int32))).bind fun v2 =>
  some (((256 : Int32) * v1) + v2)
set_option maxHeartbeats 4000000 in
theorem metX6_twoAt {l : Launch} {G : mG} {b : Nat} {σ : MS} {a1 : Int32} {x : Int32} (h : fX6_twoAt σ a1 = some x) : Met l yX6_twoAt (ws_ yX6_twoAt cX6_twoAt 2 (some .int)) rmX6_twoAt (mP G b σ [.ref b, .int a1]) (mQi G b (σ, x)) 0 0 (mB b) := by
  refine m_entry (by decide) rfl (Nat.le_of_ble_eq_true rfl) ?_
  intro p e s m below meth c S hr hlk hK hM hS ls hl
  replace hl : lv_has ls 2 [(0, .ref b), (1, .int a1)] := hl
  obtain ⟨hx, hb, hml, hown, hts⟩ := id S
  unfold fX6_twoAt at h
  refine lv_sipush (v := (256 : Int32)) hx hb dX6_twoAt_0 (by decide) ?_
  refine lv_aload_n hx hb dX6_twoAt_3 rfl (lv_at hl 0 rfl) ?_
  refine m_get S hK hM 0 (Nat.le_of_ble_eq_true rfl) q1732 (v := .ref (ma b 0)) rfl dX6_twoAt_4 ?_
  refine lv_iload_n hx hb dX6_twoAt_7 rfl (lv_at hl 1 rfl) ?_
  replace h := ob h
  obtain ⟨v1, hv1, h⟩ := h
  refine m_iald S hK hM 0 rfl hv1 dX6_twoAt_8 ?_
  refine lv_imul hx hb dX6_twoAt_9 ?_
  refine lv_aload_n hx hb dX6_twoAt_10 rfl (lv_at hl 0 rfl) ?_
  refine m_get S hK hM 0 (Nat.le_of_ble_eq_true rfl) q1732 (v := .ref (ma b 0)) rfl dX6_twoAt_11 ?_
  refine lv_iload_n hx hb dX6_twoAt_14 rfl (lv_at hl 1 rfl) ?_
  refine lv_iconst (v := (1 : Int32)) hx hb dX6_twoAt_15 (by decide) ?_
  refine lv_iadd hx hb dX6_twoAt_16 ?_
  replace h := ob h
  obtain ⟨v2, hv2, h⟩ := h
  refine m_iald S hK hM 0 rfl hv2 dX6_twoAt_17 ?_
  refine lv_iadd hx hb dX6_twoAt_18 ?_
  exact m_iret' S hr hlk rfl hM hS h dX6_twoAt_19
theorem kX6_twoAt {p : Program} {l : Launch} {e : Env} {R : Room} {s : State} {m : MethodId} {args : Array Value} {below : List Frame} {meth : Method} {c : Code} {H H0 : Heap} {locs : List Loc} {Q : State → Prop} {cc : ByteArray} {nL pc : Nat} {ls : Array Slot} {rest : List Value} {G : mG} {b : Nat} {σ : MS} {a1 : Int32} {x : Int32} (S : CallFix p m c cc nL s args lw_all RX6) (hK : mK G s) (hM : MW G b σ H) (hS : va_S (mB b) H0 H locs) (hf : fX6_twoAt σ a1 = some x) (hR : rmX6_twoAt.frames + 1 ≤ R.frames ∧ 8 + (2 + 11) + rmX6_twoAt.locals ≤ R.locals) (hsize : ls.size = nL) (hr : (rest.map fun v => v.category).sum ≤ 8) (hdg : decode cc pc = .ok (.invokevirtual 701, 3)) (kk : ∀ (H1 : Heap) (locs1 : List Loc), MW G b σ H1 → va_S (mB b) H0 H1 locs1 → W p l e R s m args below meth c H1 locs1 0 0 Q (F0 m (pc + 3) ls (.int x :: rest))) : W p l e R s m args below meth c H locs 0 0 Q (F0 m pc ls (.int a1 :: .ref b :: rest)) :=
  m_cVi (As := [.int a1]) S hK hM hS (metX6_twoAt hf) (cwV 1 S.2.2.2.2 (lw_V q2616 q2618 qs164 q179 q2619) rfl rfl rfl (by decide +kernel) hR) ⟨Nat.zero_le _, Nat.zero_le _⟩ rfl hsize rfl hr hdg kk
/-! isProfileTold(I)Z -/
abbrev rmX6_isProfileTold : Room := { frames := 3, cells := 0, slots := 0, locals := 41 }
def fX6_isProfileTold_50 (σ : MS) : Nat → Int32 → Int32 → Option (Int32)
  | 0, _, _ => none
  | n + 1, a2, a3 =>
    (fX6_filmMany σ).bind fun x1 =>
    if x1 ≤ a3 then
      some (1 : Int32)
    else
    (aI σ 0 (a2 + a3)).bind fun v3 =>
    (fX6_partsOf σ a3).bind fun x4 =>
    if v3 ≤ x4 then
      fX6_isProfileTold_50 σ n a2 (a3 + (1 : Int32))
    else
    some (0 : Int32)
def fX6_isProfileTold_8 (σ : MS) : Nat → Int32 → Int32 → Option (Int32)
  | 0, _, _ => none
  | n + 1, a2, a3 =>
    (fX6_kindMany σ).bind fun x1 =>
    if x1 ≤ a3 then
      (fX6_kindMany σ).bind fun x3 =>
      fX6_isProfileTold_50 σ FU (a2 + ((2 : Int32) * x3)) (0 : Int32)
    else
    (fX6_twoAt σ (a2 + ((2 : Int32) * a3))).bind fun x4 =>
    if x4 ≤ (999 : Int32) then
      fX6_isProfileTold_8 σ n a2 (a3 + (1 : Int32))
    else
    some (0 : Int32)
def fX6_isProfileTold (σ : MS) (a1 : Int32) : Option (Int32) :=
  (fX6_profileFrom σ a1).bind fun x1 =>
  fX6_isProfileTold_8 σ FU x1 (0 : Int32)
set_option maxHeartbeats 4000000 in
theorem wX6_isProfileTold_50 {p : Program} {l : Launch} {e : Env} {s : State} {m : MethodId} {args : Array Value} {below : List Frame} {meth : Method} {c : Code} {G : mG} {b : Nat} {σ : MS} (S : CallFix p m c cX6_isProfileTold 4 s args lw_all RX6) (hr : meth.sig.returnType = some .boolean) (hlk : meth.locks = false) (hK : mK G s) {x : Int32} : ∀ (n : Nat) (a2 : Int32) (a3 : Int32), fX6_isProfileTold_50 σ n a2 a3 = some x → mGo p l e rmX6_isProfileTold s m args below meth c G b (MQ below (mQi G b (σ, x)) args s 0 0 (mB b)) 4 50 [(0, .ref b), (2, .int a2), (3, .int a3)] [] σ := by
  obtain ⟨hx, hb, hml, hown, hts⟩ := id S
  intro n
  induction n with
  | zero => intro a2 a3 h; cases h
  | succ n ih =>
    intro a2 a3 h H locs hM hS ls hl
    rw [fX6_isProfileTold_50] at h
    refine lv_iload_n hx hb dX6_isProfileTold_50 rfl (lv_at hl 2 rfl) ?_
    refine lv_aload_n hx hb dX6_isProfileTold_51 rfl (lv_at hl 0 rfl) ?_
    replace h := ob h
    obtain ⟨x1, hx1, h⟩ := h
    refine kX6_filmMany S hK hM hS hx1 ⟨Nat.le_of_ble_eq_true rfl, Nat.le_of_ble_eq_true rfl⟩ hl.1 (Nat.le_of_ble_eq_true rfl) dX6_isProfileTold_52 (fun H locs hM hS => ?_)
    refine lv_icmp_ge (tgt := 82) hx hb dX6_isProfileTold_55 (by decide) (fun c2 => ?_) (fun c2 => ?_)
    · replace h := it c2 h
      refine lv_iconst (v := (1 : Int32)) hx hb dX6_isProfileTold_82 (by decide) ?_
      exact m_iret' S hr hlk rfl hM hS h dX6_isProfileTold_83
    replace h := ie c2 h
    refine lv_aload_n hx hb dX6_isProfileTold_58 rfl (lv_at hl 0 rfl) ?_
    refine m_get S hK hM 0 (Nat.le_of_ble_eq_true rfl) q1732 (v := .ref (ma b 0)) rfl dX6_isProfileTold_59 ?_
    refine lv_iload_n hx hb dX6_isProfileTold_62 rfl (lv_at hl 1 rfl) ?_
    refine lv_iload_n hx hb dX6_isProfileTold_63 rfl (lv_at hl 2 rfl) ?_
    refine lv_iadd hx hb dX6_isProfileTold_64 ?_
    replace h := ob h
    obtain ⟨v3, hv3, h⟩ := h
    refine m_iald S hK hM 0 rfl hv3 dX6_isProfileTold_65 ?_
    refine lv_aload_n hx hb dX6_isProfileTold_66 rfl (lv_at hl 0 rfl) ?_
    refine lv_iload_n hx hb dX6_isProfileTold_67 rfl (lv_at hl 2 rfl) ?_
    replace h := ob h
    obtain ⟨x4, hx4, h⟩ := h
    refine kX6_partsOf S hK hM hS hx4 ⟨Nat.le_of_ble_eq_true rfl, Nat.le_of_ble_eq_true rfl⟩ hl.1 (Nat.le_of_ble_eq_true rfl) dX6_isProfileTold_68 (fun H locs hM hS => ?_)
    refine lv_icmp_le (tgt := 76) hx hb dX6_isProfileTold_71 (by decide) (fun c5 => ?_) (fun c5 => ?_)
    rotate_left 1
    · replace h := ie c5 h
      refine lv_iconst (v := (0 : Int32)) hx hb dX6_isProfileTold_74 (by decide) ?_
      exact m_iret' S hr hlk rfl hM hS h dX6_isProfileTold_75
    replace h := it c5 h
    refine lv_iinc (v := (a3 + (1 : Int32))) (lv' := [(3, .int (a3 + (1 : Int32))), (0, .ref b), (2, .int a2)]) hx hb dX6_isProfileTold_76 hl (k := 2) rfl rfl (by decide) rfl (fun ls hl => ?_)
    refine lv_goto (tgt := 50) hx hb dX6_isProfileTold_79 (by decide) ?_
    exact ih a2 (a3 + (1 : Int32)) h _ _ hM hS _ (lv_sub hl [1, 2, 0] rfl)
set_option maxHeartbeats 4000000 in
theorem wX6_isProfileTold_8 {p : Program} {l : Launch} {e : Env} {s : State} {m : MethodId} {args : Array Value} {below : List Frame} {meth : Method} {c : Code} {G : mG} {b : Nat} {σ : MS} (S : CallFix p m c cX6_isProfileTold 4 s args lw_all RX6) (hr : meth.sig.returnType = some .boolean) (hlk : meth.locks = false) (hK : mK G s) {x : Int32} : ∀ (n : Nat) (a2 : Int32) (a3 : Int32), fX6_isProfileTold_8 σ n a2 a3 = some x → mGo p l e rmX6_isProfileTold s m args below meth c G b (MQ below (mQi G b (σ, x)) args s 0 0 (mB b)) 4 8 [(0, .ref b), (2, .int a2), (3, .int a3)] [] σ := by
  obtain ⟨hx, hb, hml, hown, hts⟩ := id S
  intro n
  induction n with
  | zero => intro a2 a3 h; cases h
  | succ n ih =>
    intro a2 a3 h H locs hM hS ls hl
    rw [fX6_isProfileTold_8] at h
    refine lv_iload_n hx hb dX6_isProfileTold_8 rfl (lv_at hl 2 rfl) ?_
    refine lv_aload_n hx hb dX6_isProfileTold_9 rfl (lv_at hl 0 rfl) ?_
    replace h := ob h
    obtain ⟨x1, hx1, h⟩ := h
    refine kX6_kindMany S hK hM hS hx1 ⟨Nat.le_of_ble_eq_true rfl, Nat.le_of_ble_eq_true rfl⟩ hl.1 (Nat.le_of_ble_eq_true rfl) dX6_isProfileTold_10 (fun H locs hM hS => ?_)
    refine lv_icmp_ge (tgt := 39) hx hb dX6_isProfileTold_13 (by decide) (fun c2 => ?_) (fun c2 => ?_)
    · replace h := it c2 h
      refine lv_iload_n hx hb dX6_isProfileTold_39 rfl (lv_at hl 1 rfl) ?_
      refine lv_iconst (v := (2 : Int32)) hx hb dX6_isProfileTold_40 (by decide) ?_
      refine lv_aload_n hx hb dX6_isProfileTold_41 rfl (lv_at hl 0 rfl) ?_
      replace h := ob h
      obtain ⟨x3, hx3, h⟩ := h
      refine kX6_kindMany S hK hM hS hx3 ⟨Nat.le_of_ble_eq_true rfl, Nat.le_of_ble_eq_true rfl⟩ hl.1 (Nat.le_of_ble_eq_true rfl) dX6_isProfileTold_42 (fun H locs hM hS => ?_)
      refine lv_imul hx hb dX6_isProfileTold_45 ?_
      refine lv_iadd hx hb dX6_isProfileTold_46 ?_
      refine lv_istore_n (lv' := [(2, .int (a2 + ((2 : Int32) * x3))), (0, .ref b), (3, .int a3)]) hx hb dX6_isProfileTold_47 rfl hl (by decide) rfl (fun ls hl => ?_)
      refine lv_iconst (v := (0 : Int32)) hx hb dX6_isProfileTold_48 (by decide) ?_
      refine lv_istore_n (lv' := [(3, .int (0 : Int32)), (2, .int (a2 + ((2 : Int32) * x3))), (0, .ref b)]) hx hb dX6_isProfileTold_49 rfl hl (by decide) rfl (fun ls hl => ?_)
      exact wX6_isProfileTold_50 S hr hlk hK FU (a2 + ((2 : Int32) * x3)) (0 : Int32) h _ _ hM hS _ (lv_sub hl [2, 1, 0] rfl)
    replace h := ie c2 h
    refine lv_aload_n hx hb dX6_isProfileTold_16 rfl (lv_at hl 0 rfl) ?_
    refine lv_iload_n hx hb dX6_isProfileTold_17 rfl (lv_at hl 1 rfl) ?_
    refine lv_iconst (v := (2 : Int32)) hx hb dX6_isProfileTold_18 (by decide) ?_
    refine lv_iload_n hx hb dX6_isProfileTold_19 rfl (lv_at hl 2 rfl) ?_
    refine lv_imul hx hb dX6_isProfileTold_20 ?_
    refine lv_iadd hx hb dX6_isProfileTold_21 ?_
    replace h := ob h
    obtain ⟨x4, hx4, h⟩ := h
    refine kX6_twoAt S hK hM hS hx4 ⟨Nat.le_of_ble_eq_true rfl, Nat.le_of_ble_eq_true rfl⟩ hl.1 (Nat.le_of_ble_eq_true rfl) dX6_isProfileTold_22 (fun H locs hM hS => ?_)
    refine lv_sipush (v := (999 : Int32)) hx hb dX6_isProfileTold_25 (by decide) ?_
    refine lv_icmp_le (tgt := 33) hx hb dX6_isProfileTold_28 (by decide) (fun c5 => ?_) (fun c5 => ?_)
    rotate_left 1
    · replace h := ie c5 h
      refine lv_iconst (v := (0 : Int32)) hx hb dX6_isProfileTold_31 (by decide) ?_
      exact m_iret' S hr hlk rfl hM hS h dX6_isProfileTold_32
    replace h := it c5 h
    refine lv_iinc (v := (a3 + (1 : Int32))) (lv' := [(3, .int (a3 + (1 : Int32))), (0, .ref b), (2, .int a2)]) hx hb dX6_isProfileTold_33 hl (k := 2) rfl rfl (by decide) rfl (fun ls hl => ?_)
    refine lv_goto (tgt := 8) hx hb dX6_isProfileTold_36 (by decide) ?_
    exact ih a2 (a3 + (1 : Int32)) h _ _ hM hS _ (lv_sub hl [1, 2, 0] rfl)
set_option maxHeartbeats 4000000 in
theorem metX6_isProfileTold {l : Launch} {G : mG} {b : Nat} {σ : MS} {a1 : Int32} {x : Int32} (h : fX6_isProfileTold σ a1 = some x) : Met l yX6_isProfileTold (ws_ yX6_isProfileTold cX6_isProfileTold 4 (some .boolean)) rmX6_isProfileTold (mP G b σ [.ref b, .int a1]) (mQi G b (σ, x)) 0 0 (mB b) := by
  refine m_entry (by decide) rfl (Nat.le_of_ble_eq_true rfl) ?_
  intro p e s m below meth c S hr hlk hK hM hS ls hl
  replace hl : lv_has ls 4 [(0, .ref b), (1, .int a1)] := hl
  obtain ⟨hx, hb, hml, hown, hts⟩ := id S
  unfold fX6_isProfileTold at h
  refine lv_aload_n hx hb dX6_isProfileTold_0 rfl (lv_at hl 0 rfl) ?_
  refine lv_iload_n hx hb dX6_isProfileTold_1 rfl (lv_at hl 1 rfl) ?_
  replace h := ob h
  obtain ⟨x1, hx1, h⟩ := h
  refine kX6_profileFrom S hK hM hS hx1 ⟨Nat.le_of_ble_eq_true rfl, Nat.le_of_ble_eq_true rfl⟩ hl.1 (Nat.le_of_ble_eq_true rfl) dX6_isProfileTold_2 (fun H locs hM hS => ?_)
  refine lv_istore_n (lv' := [(2, .int x1), (0, .ref b), (1, .int a1)]) hx hb dX6_isProfileTold_5 rfl hl (by decide) rfl (fun ls hl => ?_)
  refine lv_iconst (v := (0 : Int32)) hx hb dX6_isProfileTold_6 (by decide) ?_
  refine lv_istore_n (lv' := [(3, .int (0 : Int32)), (2, .int x1), (0, .ref b), (1, .int a1)]) hx hb dX6_isProfileTold_7 rfl hl (by decide) rfl (fun ls hl => ?_)
  exact wX6_isProfileTold_8 S hr hlk hK FU x1 (0 : Int32) h _ _ hM hS _ (lv_sub hl [2, 1, 0] rfl)
theorem kX6_isProfileTold {p : Program} {l : Launch} {e : Env} {R : Room} {s : State} {m : MethodId} {args : Array Value} {below : List Frame} {meth : Method} {c : Code} {H H0 : Heap} {locs : List Loc} {Q : State → Prop} {cc : ByteArray} {nL pc : Nat} {ls : Array Slot} {rest : List Value} {G : mG} {b : Nat} {σ : MS} {a1 : Int32} {x : Int32} (S : CallFix p m c cc nL s args lw_all RX6) (hK : mK G s) (hM : MW G b σ H) (hS : va_S (mB b) H0 H locs) (hf : fX6_isProfileTold σ a1 = some x) (hR : rmX6_isProfileTold.frames + 1 ≤ R.frames ∧ 8 + (4 + 11) + rmX6_isProfileTold.locals ≤ R.locals) (hsize : ls.size = nL) (hr : (rest.map fun v => v.category).sum ≤ 8) (hdg : decode cc pc = .ok (.invokevirtual 704, 3)) (kk : ∀ (H1 : Heap) (locs1 : List Loc), MW G b σ H1 → va_S (mB b) H0 H1 locs1 → W p l e R s m args below meth c H1 locs1 0 0 Q (F0 m (pc + 3) ls (.int x :: rest))) : W p l e R s m args below meth c H locs 0 0 Q (F0 m pc ls (.int a1 :: .ref b :: rest)) :=
  m_cVi (As := [.int a1]) S hK hM hS (metX6_isProfileTold hf) (cwV 1 S.2.2.2.2 (lw_V q2620 q2622 qs165 q179 q2623) rfl rfl rfl (by decide +kernel) hR) ⟨Nat.zero_le _, Nat.zero_le _⟩ rfl hsize rfl hr hdg kk
/-! isImage(I)Z -/
abbrev rmX6_isImage : Room := { frames := 4, cells := 0, slots := 0, locals := 64 }
def fX6_isImage_98 (σ : MS) : Nat → Int32 → Int32 → Option (Int32)
  | 0, _, _ => none
  | n + 1, a2, a3 =>
    (fX6_personMany σ).bind fun x1 =>
    if x1 ≤ a3 then
      some (1 : Int32)
    else
    (aI σ 0 (a2 + ((3 : Int32) * a3))).bind fun v3 =>
    if (1 : Int32) < v3 then
      some (0 : Int32)
    else
    (fX6_twoAt σ ((a2 + (1 : Int32)) + ((3 : Int32) * a3))).bind fun x5 =>
    if x5 ≤ (9999 : Int32) then
      fX6_isImage_98 σ n a2 (a3 + (1 : Int32))
    else
    some (0 : Int32)
def fX6_isImage_72 (σ : MS) : Nat → Int32 → Int32 → Option (Int32)
  | 0, _, _ => none
  | n + 1, a2, a3 =>
    (fX6_personMany σ).bind fun x1 =>
    if x1 < a3 then
      fX6_isImage_98 σ FU a2 (0 : Int32)
    else
    (fX6_isProfileTold σ a3).bind fun x3 =>
    if x3 = 0 then
      some (0 : Int32)
    else
    fX6_isImage_72 σ n a2 (a3 + (1 : Int32))
def fX6_isImage (σ : MS) (a1 : Int32) : Option (Int32) :=
  (fX6_personMany σ).bind fun x1 =>
  (fX6_profileFrom σ ((1 : Int32) + x1)).bind fun x2 =>
  (fX6_personMany σ).bind fun x3 =>
  if a1 = ((x2 + ((3 : Int32) * x3)) + (1 : Int32)) then
    (aI σ 0 (a1 - (1 : Int32))).bind fun v5 =>
    (fX6_checked σ 0 (a1 - (1 : Int32))).bind fun x6 =>
    if v5 = x6 then
      (fX6_twoAt σ (0 : Int32)).bind fun x8 =>
      if (999 : Int32) < x8 then
        some (0 : Int32)
      else
      (aI σ 0 (2 : Int32)).bind fun v10 =>
      if v10 < (24 : Int32) then
        fX6_isImage_72 σ FU x2 (0 : Int32)
      else
      some (0 : Int32)
    else
    some (0 : Int32)
  else
  some (0 : Int32)
set_option maxHeartbeats 4000000 in
theorem wX6_isImage_98 {p : Program} {l : Launch} {e : Env} {s : State} {m : MethodId} {args : Array Value} {below : List Frame} {meth : Method} {c : Code} {G : mG} {b : Nat} {σ : MS} (S : CallFix p m c cX6_isImage 4 s args lw_all RX6) (hr : meth.sig.returnType = some .boolean) (hlk : meth.locks = false) (hK : mK G s) {x : Int32} : ∀ (n : Nat) (a2 : Int32) (a3 : Int32), fX6_isImage_98 σ n a2 a3 = some x → mGo p l e rmX6_isImage s m args below meth c G b (MQ below (mQi G b (σ, x)) args s 0 0 (mB b)) 4 98 [(0, .ref b), (2, .int a2), (3, .int a3)] [] σ := by
  obtain ⟨hx, hb, hml, hown, hts⟩ := id S
  intro n
  induction n with
  | zero => intro a2 a3 h; cases h
  | succ n ih =>
    intro a2 a3 h H locs hM hS ls hl
    rw [fX6_isImage_98] at h
    refine lv_iload_n hx hb dX6_isImage_98 rfl (lv_at hl 2 rfl) ?_
    refine lv_aload_n hx hb dX6_isImage_99 rfl (lv_at hl 0 rfl) ?_
    replace h := ob h
    obtain ⟨x1, hx1, h⟩ := h
    refine kX6_personMany S hK hM hS hx1 ⟨Nat.le_of_ble_eq_true rfl, Nat.le_of_ble_eq_true rfl⟩ hl.1 (Nat.le_of_ble_eq_true rfl) dX6_isImage_100 (fun H locs hM hS => ?_)
    refine lv_icmp_ge (tgt := 145) hx hb dX6_isImage_103 (by decide) (fun c2 => ?_) (fun c2 => ?_)
    · replace h := it c2 h
      refine lv_iconst (v := (1 : Int32)) hx hb dX6_isImage_145 (by decide) ?_
      exact m_iret' S hr hlk rfl hM hS h dX6_isImage_146
    replace h := ie c2 h
    refine lv_aload_n hx hb dX6_isImage_106 rfl (lv_at hl 0 rfl) ?_
    refine m_get S hK hM 0 (Nat.le_of_ble_eq_true rfl) q1732 (v := .ref (ma b 0)) rfl dX6_isImage_107 ?_
    refine lv_iload_n hx hb dX6_isImage_110 rfl (lv_at hl 1 rfl) ?_
    refine lv_iconst (v := (3 : Int32)) hx hb dX6_isImage_111 (by decide) ?_
    refine lv_iload_n hx hb dX6_isImage_112 rfl (lv_at hl 2 rfl) ?_
    refine lv_imul hx hb dX6_isImage_113 ?_
    refine lv_iadd hx hb dX6_isImage_114 ?_
    replace h := ob h
    obtain ⟨v3, hv3, h⟩ := h
    refine m_iald S hK hM 0 rfl hv3 dX6_isImage_115 ?_
    refine lv_iconst (v := (1 : Int32)) hx hb dX6_isImage_116 (by decide) ?_
    refine lv_icmp_gt (tgt := 137) hx hb dX6_isImage_117 (by decide) (fun c4 => ?_) (fun c4 => ?_)
    · replace h := it c4 h
      refine lv_iconst (v := (0 : Int32)) hx hb dX6_isImage_137 (by decide) ?_
      exact m_iret' S hr hlk rfl hM hS h dX6_isImage_138
    replace h := ie c4 h
    refine lv_aload_n hx hb dX6_isImage_120 rfl (lv_at hl 0 rfl) ?_
    refine lv_iload_n hx hb dX6_isImage_121 rfl (lv_at hl 1 rfl) ?_
    refine lv_iconst (v := (1 : Int32)) hx hb dX6_isImage_122 (by decide) ?_
    refine lv_iadd hx hb dX6_isImage_123 ?_
    refine lv_iconst (v := (3 : Int32)) hx hb dX6_isImage_124 (by decide) ?_
    refine lv_iload_n hx hb dX6_isImage_125 rfl (lv_at hl 2 rfl) ?_
    refine lv_imul hx hb dX6_isImage_126 ?_
    refine lv_iadd hx hb dX6_isImage_127 ?_
    replace h := ob h
    obtain ⟨x5, hx5, h⟩ := h
    refine kX6_twoAt S hK hM hS hx5 ⟨Nat.le_of_ble_eq_true rfl, Nat.le_of_ble_eq_true rfl⟩ hl.1 (Nat.le_of_ble_eq_true rfl) dX6_isImage_128 (fun H locs hM hS => ?_)
    refine lv_sipush (v := (9999 : Int32)) hx hb dX6_isImage_131 (by decide) ?_
    refine lv_icmp_le (tgt := 139) hx hb dX6_isImage_134 (by decide) (fun c6 => ?_) (fun c6 => ?_)
    rotate_left 1
    · replace h := ie c6 h
      refine lv_iconst (v := (0 : Int32)) hx hb dX6_isImage_137 (by decide) ?_
      exact m_iret' S hr hlk rfl hM hS h dX6_isImage_138
    replace h := it c6 h
    refine lv_iinc (v := (a3 + (1 : Int32))) (lv' := [(3, .int (a3 + (1 : Int32))), (0, .ref b), (2, .int a2)]) hx hb dX6_isImage_139 hl (k := 2) rfl rfl (by decide) rfl (fun ls hl => ?_)
    refine lv_goto (tgt := 98) hx hb dX6_isImage_142 (by decide) ?_
    exact ih a2 (a3 + (1 : Int32)) h _ _ hM hS _ (lv_sub hl [1, 2, 0] rfl)
set_option maxHeartbeats 4000000 in
theorem wX6_isImage_72 {p : Program} {l : Launch} {e : Env} {s : State} {m : MethodId} {args : Array Value} {below : List Frame} {meth : Method} {c : Code} {G : mG} {b : Nat} {σ : MS} (S : CallFix p m c cX6_isImage 4 s args lw_all RX6) (hr : meth.sig.returnType = some .boolean) (hlk : meth.locks = false) (hK : mK G s) {x : Int32} : ∀ (n : Nat) (a2 : Int32) (a3 : Int32), fX6_isImage_72 σ n a2 a3 = some x → mGo p l e rmX6_isImage s m args below meth c G b (MQ below (mQi G b (σ, x)) args s 0 0 (mB b)) 4 72 [(0, .ref b), (2, .int a2), (3, .int a3)] [] σ := by
  obtain ⟨hx, hb, hml, hown, hts⟩ := id S
  intro n
  induction n with
  | zero => intro a2 a3 h; cases h
  | succ n ih =>
    intro a2 a3 h H locs hM hS ls hl
    rw [fX6_isImage_72] at h
    refine lv_iload_n hx hb dX6_isImage_72 rfl (lv_at hl 2 rfl) ?_
    refine lv_aload_n hx hb dX6_isImage_73 rfl (lv_at hl 0 rfl) ?_
    replace h := ob h
    obtain ⟨x1, hx1, h⟩ := h
    refine kX6_personMany S hK hM hS hx1 ⟨Nat.le_of_ble_eq_true rfl, Nat.le_of_ble_eq_true rfl⟩ hl.1 (Nat.le_of_ble_eq_true rfl) dX6_isImage_74 (fun H locs hM hS => ?_)
    refine lv_icmp_gt (tgt := 96) hx hb dX6_isImage_77 (by decide) (fun c2 => ?_) (fun c2 => ?_)
    · replace h := it c2 h
      refine lv_iconst (v := (0 : Int32)) hx hb dX6_isImage_96 (by decide) ?_
      refine lv_istore_n (lv' := [(3, .int (0 : Int32)), (0, .ref b), (2, .int a2)]) hx hb dX6_isImage_97 rfl hl (by decide) rfl (fun ls hl => ?_)
      exact wX6_isImage_98 S hr hlk hK FU a2 (0 : Int32) h _ _ hM hS _ (lv_sub hl [1, 2, 0] rfl)
    replace h := ie c2 h
    refine lv_aload_n hx hb dX6_isImage_80 rfl (lv_at hl 0 rfl) ?_
    refine lv_iload_n hx hb dX6_isImage_81 rfl (lv_at hl 2 rfl) ?_
    replace h := ob h
    obtain ⟨x3, hx3, h⟩ := h
    refine kX6_isProfileTold S hK hM hS hx3 ⟨Nat.le_of_ble_eq_true rfl, Nat.le_of_ble_eq_true rfl⟩ hl.1 (Nat.le_of_ble_eq_true rfl) dX6_isImage_82 (fun H locs hM hS => ?_)
    refine lv_if_ne (tgt := 90) hx hb dX6_isImage_85 (by decide) (fun c4 => ?_) (fun c4 => ?_)
    rotate_left 1
    · replace h := it c4 h
      refine lv_iconst (v := (0 : Int32)) hx hb dX6_isImage_88 (by decide) ?_
      exact m_iret' S hr hlk rfl hM hS h dX6_isImage_89
    replace h := ie c4 h
    refine lv_iinc (v := (a3 + (1 : Int32))) (lv' := [(3, .int (a3 + (1 : Int32))), (0, .ref b), (2, .int a2)]) hx hb dX6_isImage_90 hl (k := 2) rfl rfl (by decide) rfl (fun ls hl => ?_)
    refine lv_goto (tgt := 72) hx hb dX6_isImage_93 (by decide) ?_
    exact ih a2 (a3 + (1 : Int32)) h _ _ hM hS _ (lv_sub hl [1, 2, 0] rfl)
set_option maxHeartbeats 4000000 in
theorem metX6_isImage {l : Launch} {G : mG} {b : Nat} {σ : MS} {a1 : Int32} {x : Int32} (h : fX6_isImage σ a1 = some x) : Met l yX6_isImage (ws_ yX6_isImage cX6_isImage 4 (some .boolean)) rmX6_isImage (mP G b σ [.ref b, .int a1]) (mQi G b (σ, x)) 0 0 (mB b) := by
  refine m_entry (by decide) rfl (Nat.le_of_ble_eq_true rfl) ?_
  intro p e s m below meth c S hr hlk hK hM hS ls hl
  replace hl : lv_has ls 4 [(0, .ref b), (1, .int a1)] := hl
  obtain ⟨hx, hb, hml, hown, hts⟩ := id S
  unfold fX6_isImage at h
  refine lv_aload_n hx hb dX6_isImage_0 rfl (lv_at hl 0 rfl) ?_
  refine lv_iconst (v := (1 : Int32)) hx hb dX6_isImage_1 (by decide) ?_
  refine lv_aload_n hx hb dX6_isImage_2 rfl (lv_at hl 0 rfl) ?_
  replace h := ob h
  obtain ⟨x1, hx1, h⟩ := h
  refine kX6_personMany S hK hM hS hx1 ⟨Nat.le_of_ble_eq_true rfl, Nat.le_of_ble_eq_true rfl⟩ hl.1 (Nat.le_of_ble_eq_true rfl) dX6_isImage_3 (fun H locs hM hS => ?_)
  refine lv_iadd hx hb dX6_isImage_6 ?_
  replace h := ob h
  obtain ⟨x2, hx2, h⟩ := h
  refine kX6_profileFrom S hK hM hS hx2 ⟨Nat.le_of_ble_eq_true rfl, Nat.le_of_ble_eq_true rfl⟩ hl.1 (Nat.le_of_ble_eq_true rfl) dX6_isImage_7 (fun H locs hM hS => ?_)
  refine lv_istore_n (lv' := [(2, .int x2), (0, .ref b), (1, .int a1)]) hx hb dX6_isImage_10 rfl hl (by decide) rfl (fun ls hl => ?_)
  refine lv_iload_n hx hb dX6_isImage_11 rfl (lv_at hl 2 rfl) ?_
  refine lv_iload_n hx hb dX6_isImage_12 rfl (lv_at hl 0 rfl) ?_
  refine lv_iconst (v := (3 : Int32)) hx hb dX6_isImage_13 (by decide) ?_
  refine lv_aload_n hx hb dX6_isImage_14 rfl (lv_at hl 1 rfl) ?_
  replace h := ob h
  obtain ⟨x3, hx3, h⟩ := h
  refine kX6_personMany S hK hM hS hx3 ⟨Nat.le_of_ble_eq_true rfl, Nat.le_of_ble_eq_true rfl⟩ hl.1 (Nat.le_of_ble_eq_true rfl) dX6_isImage_15 (fun H locs hM hS => ?_)
  refine lv_imul hx hb dX6_isImage_18 ?_
  refine lv_iadd hx hb dX6_isImage_19 ?_
  refine lv_iconst (v := (1 : Int32)) hx hb dX6_isImage_20 (by decide) ?_
  refine lv_iadd hx hb dX6_isImage_21 ?_
  refine lv_icmp_ne (tgt := 68) hx hb dX6_isImage_22 (by decide) (fun c4 => ?_) (fun c4 => ?_)
  · replace h := ie c4 h
    refine lv_iconst (v := (0 : Int32)) hx hb dX6_isImage_68 (by decide) ?_
    exact m_iret' S hr hlk rfl hM hS h dX6_isImage_69
  replace h := it c4 h
  refine lv_aload_n hx hb dX6_isImage_25 rfl (lv_at hl 1 rfl) ?_
  refine m_get S hK hM 0 (Nat.le_of_ble_eq_true rfl) q1732 (v := .ref (ma b 0)) rfl dX6_isImage_26 ?_
  refine lv_iload_n hx hb dX6_isImage_29 rfl (lv_at hl 2 rfl) ?_
  refine lv_iconst (v := (1 : Int32)) hx hb dX6_isImage_30 (by decide) ?_
  refine lv_isub hx hb dX6_isImage_31 ?_
  replace h := ob h
  obtain ⟨v5, hv5, h⟩ := h
  refine m_iald S hK hM 0 rfl hv5 dX6_isImage_32 ?_
  refine lv_aload_n hx hb dX6_isImage_33 rfl (lv_at hl 1 rfl) ?_
  refine m_get S hK hM 0 (Nat.le_of_ble_eq_true rfl) q1732 (v := .ref (ma b 0)) rfl dX6_isImage_34 ?_
  refine lv_iload_n hx hb dX6_isImage_37 rfl (lv_at hl 2 rfl) ?_
  refine lv_iconst (v := (1 : Int32)) hx hb dX6_isImage_38 (by decide) ?_
  refine lv_isub hx hb dX6_isImage_39 ?_
  replace h := ob h
  obtain ⟨x6, hx6, h⟩ := h
  refine kX6_checked S hK hM hS hx6 ⟨Nat.le_of_ble_eq_true rfl, Nat.le_of_ble_eq_true rfl⟩ hl.1 (Nat.le_of_ble_eq_true rfl) dX6_isImage_40 (fun H locs hM hS => ?_)
  refine lv_icmp_ne (tgt := 68) hx hb dX6_isImage_43 (by decide) (fun c7 => ?_) (fun c7 => ?_)
  · replace h := ie c7 h
    refine lv_iconst (v := (0 : Int32)) hx hb dX6_isImage_68 (by decide) ?_
    exact m_iret' S hr hlk rfl hM hS h dX6_isImage_69
  replace h := it c7 h
  refine lv_aload_n hx hb dX6_isImage_46 rfl (lv_at hl 1 rfl) ?_
  refine lv_iconst (v := (0 : Int32)) hx hb dX6_isImage_47 (by decide) ?_
  replace h := ob h
  obtain ⟨x8, hx8, h⟩ := h
  refine kX6_twoAt S hK hM hS hx8 ⟨Nat.le_of_ble_eq_true rfl, Nat.le_of_ble_eq_true rfl⟩ hl.1 (Nat.le_of_ble_eq_true rfl) dX6_isImage_48 (fun H locs hM hS => ?_)
  refine lv_sipush (v := (999 : Int32)) hx hb dX6_isImage_51 (by decide) ?_
  refine lv_icmp_gt (tgt := 68) hx hb dX6_isImage_54 (by decide) (fun c9 => ?_) (fun c9 => ?_)
  · replace h := it c9 h
    refine lv_iconst (v := (0 : Int32)) hx hb dX6_isImage_68 (by decide) ?_
    exact m_iret' S hr hlk rfl hM hS h dX6_isImage_69
  replace h := ie c9 h
  refine lv_aload_n hx hb dX6_isImage_57 rfl (lv_at hl 1 rfl) ?_
  refine m_get S hK hM 0 (Nat.le_of_ble_eq_true rfl) q1732 (v := .ref (ma b 0)) rfl dX6_isImage_58 ?_
  refine lv_iconst (v := (2 : Int32)) hx hb dX6_isImage_61 (by decide) ?_
  replace h := ob h
  obtain ⟨v10, hv10, h⟩ := h
  refine m_iald S hK hM 0 rfl hv10 dX6_isImage_62 ?_
  refine lv_bipush (v := (24 : Int32)) hx hb dX6_isImage_63 (by decide) ?_
  refine lv_icmp_lt (tgt := 70) hx hb dX6_isImage_65 (by decide) (fun c11 => ?_) (fun c11 => ?_)
  rotate_left 1
  · replace h := ie c11 h
    refine lv_iconst (v := (0 : Int32)) hx hb dX6_isImage_68 (by decide) ?_
    exact m_iret' S hr hlk rfl hM hS h dX6_isImage_69
  replace h := it c11 h
  refine lv_iconst (v := (0 : Int32)) hx hb dX6_isImage_70 (by decide) ?_
  refine lv_istore_n (lv' := [(3, .int (0 : Int32)), (2, .int x2), (0, .ref b), (1, .int a1)]) hx hb dX6_isImage_71 rfl hl (by decide) rfl (fun ls hl => ?_)
  exact wX6_isImage_72 S hr hlk hK FU x2 (0 : Int32) h _ _ hM hS _ (lv_sub hl [2, 1, 0] rfl)
theorem kX6_isImage {p : Program} {l : Launch} {e : Env} {R : Room} {s : State} {m : MethodId} {args : Array Value} {below : List Frame} {meth : Method} {c : Code} {H H0 : Heap} {locs : List Loc} {Q : State → Prop} {cc : ByteArray} {nL pc : Nat} {ls : Array Slot} {rest : List Value} {G : mG} {b : Nat} {σ : MS} {a1 : Int32} {x : Int32} (S : CallFix p m c cc nL s args lw_all RX6) (hK : mK G s) (hM : MW G b σ H) (hS : va_S (mB b) H0 H locs) (hf : fX6_isImage σ a1 = some x) (hR : rmX6_isImage.frames + 1 ≤ R.frames ∧ 8 + (4 + 11) + rmX6_isImage.locals ≤ R.locals) (hsize : ls.size = nL) (hr : (rest.map fun v => v.category).sum ≤ 8) (hdg : decode cc pc = .ok (.invokevirtual 707, 3)) (kk : ∀ (H1 : Heap) (locs1 : List Loc), MW G b σ H1 → va_S (mB b) H0 H1 locs1 → W p l e R s m args below meth c H1 locs1 0 0 Q (F0 m (pc + 3) ls (.int x :: rest))) : W p l e R s m args below meth c H locs 0 0 Q (F0 m pc ls (.int a1 :: .ref b :: rest)) :=
  m_cVi (As := [.int a1]) S hK hM hS (metX6_isImage hf) (cwV 1 S.2.2.2.2 (lw_V q2608 q2610 qs162 q179 q2611) rfl rfl rfl (by decide +kernel) hR) ⟨Nat.zero_le _, Nat.zero_le _⟩ rfl hsize rfl hr hdg kk

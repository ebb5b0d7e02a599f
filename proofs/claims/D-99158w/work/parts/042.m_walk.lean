set_option maxRecDepth 100000
/-! qPartTold()V -/
abbrev rmX6_qPartTold : Room := { frames := 6, cells := 0, slots := 0, locals := 106 }
def fX6_qPartTold_183 (k2 : MS → Int32 → Option (MS)) (σ : MS) (a1 : Int32) : Option (MS) :=
  k2 σ a1
def fX6_qPartTold_144 (k2 : MS → Int32 → Option (MS)) (σ : MS) (a1 : Int32) : Option (MS) :=
  (fX6_asksSign σ (40 : Int32)).bind fun x1 =>
  fX6_qPartTold_183 k2 x1 a1
def fX6_qPartTold_139 (k2 : MS → Int32 → Option (MS)) (σ : MS) (a1 : Int32) (a5 : Int32) (t1 : Int32) : Option (MS) :=
  (fX6_qOpens σ t1 a5).bind fun x1 =>
  fX6_qPartTold_144 k2 x1 a1
def fX6_qPartTold_118 (k2 : MS → Int32 → Option (MS)) (σ : MS) (a1 : Int32) (a4 : Int32) (t0 : Int32) : Option (MS) :=
  if t0 = (-1 : Int32) then
    fX6_qPartTold_144 k2 σ a1
  else
  if a4 = 0 then
    fX6_qPartTold_139 k2 σ a1 t0 (22 : Int32)
  else
  fX6_qPartTold_139 k2 σ a1 t0 (21 : Int32)
def fX6_qPartTold_101 (k2 : MS → Int32 → Option (MS)) (σ : MS) (a1 : Int32) (a4 : Int32) : Option (MS) :=
  (fX6_look σ).bind fun x1 =>
  if x1.2 = (40 : Int32) then
    fX6_qPartTold_118 k2 x1.1 a1 a4 (x1.1.1 2)
  else
  fX6_qPartTold_118 k2 x1.1 a1 a4 (-1 : Int32)
def fX6_qPartTold_78 (k2 : MS → Int32 → Option (MS)) (σ : MS) (a1 : Int32) : Option (MS) :=
  (fX6_takes σ 81).bind fun x1 =>
  if x1.2 = 0 then
    (fX6_asks x1.1 82).bind fun x3 =>
    fX6_qPartTold_101 k2 x3 a1 x1.2
  else
  fX6_qPartTold_101 k2 x1.1 a1 x1.2
def fX6_qPartTold_237 (σ : MS) (t1 : Int32) : Option (MS) :=
  (fX6_qCode σ t1).bind fun x1 =>
  (fX6_qEndsPart x1).bind fun x2 =>
  some x2
def fX6_qPartTold_212 (σ : MS) (a2 : Int32) : Option (MS) :=
  if a2 = (-1 : Int32) then
    (fX6_number σ (0 : Int32) (9999 : Int32)).bind fun x2 =>
    fX6_qPartTold_237 x2.1 ((1000 : Int32) + x2.2)
  else
  fX6_qPartTold_237 σ ((40 : Int32) + a2)
def fX6_qPartTold_186 (σ : MS) : Option (MS) :=
  if (σ.1 5) = 0 then
    (fX6_qWordOf σ (0 : Int32) (8 : Int32)).bind fun x2 =>
    if x2.2 = (-1 : Int32) then
      fX6_qPartTold_212 x2.1 x2.2
    else
    (fX6_qAsksWord x2.1 x2.2).bind fun x4 =>
    fX6_qPartTold_212 x4 x2.2
  else
  some σ
def fX6_qPartTold_2 : Nat → MS → Int32 → Option (MS)
  | 0, _, _ => none
  | n + 1, σ, a1 =>
    if a1 = 0 then
      fX6_qPartTold_186 σ
    else
    if (σ.1 5) = 0 then
      (fX6_look σ).bind fun x3 =>
      (fX6_qWordOf x3.1 (8 : Int32) (9 : Int32)).bind fun x4 =>
      if x3.2 = (40 : Int32) then
        (fX6_qOpens x4.1 (20 : Int32) (x4.1.1 2)).bind fun x13 =>
        fX6_qPartTold_183 (fun σ' b1 => fX6_qPartTold_2 n σ' b1) (sI x13 2 ((x13.1 2) + (1 : Int32))) a1
      else
      (fX6_isHere x4.1 81).bind fun x6 =>
      if x6.2 = 0 then
        (fX6_isHere x6.1 82).bind fun x8 =>
        if x8.2 = 0 then
          if x4.2 = (-1 : Int32) then
            fX6_qPartTold_183 (fun σ' b1 => fX6_qPartTold_2 n σ' b1) x8.1 (0 : Int32)
          else
          (fX6_qOpens x8.1 (((60 : Int32) + x4.2) - (8 : Int32)) (x8.1.1 2)).bind fun x11 =>
          (fX6_qAsksWord x11 x4.2).bind fun x12 =>
          fX6_qPartTold_183 (fun σ' b1 => fX6_qPartTold_2 n σ' b1) x12 a1
        else
        fX6_qPartTold_78 (fun σ' b1 => fX6_qPartTold_2 n σ' b1) x8.1 a1
      else
      fX6_qPartTold_78 (fun σ' b1 => fX6_qPartTold_2 n σ' b1) x6.1 a1
    else
    fX6_qPartTold_186 σ
def fX6_qPartTold (σ : MS) : Option (MS) :=
  fX6_qPartTold_2 FU σ (1 : Int32)
set_option maxHeartbeats 4000000 in
theorem wX6_qPartTold_183 {p : Program} {l : Launch} {e : Env} {s : State} {m : MethodId} {args : Array Value} {below : List Frame} {meth : Method} {c : Code} {G : mG} {b : Nat} (S : CallFix p m c cX6_qPartTold 6 s args lw_all RX6) (hr : meth.sig.returnType = none) (hlk : meth.locks = false) (hK : mK G s) {x : MS} {k2 : MS → Int32 → Option (MS)} (hk2 : ∀ σ a1, k2 σ a1 = some x → mGo p l e rmX6_qPartTold s m args below meth c G b (MQ below (mQv G b x) args s 0 0 (mB b)) 6 2 [(0, .ref b), (1, .int a1)] [] σ) : ∀ (σ : MS) (a1 : Int32), fX6_qPartTold_183 k2 σ a1 = some x → mGo p l e rmX6_qPartTold s m args below meth c G b (MQ below (mQv G b x) args s 0 0 (mB b)) 6 183 [(0, .ref b), (1, .int a1)] [] σ := by
  obtain ⟨hx, hb, hml, hown, hts⟩ := id S
  intro σ a1 h H locs hM hS ls hl
  unfold fX6_qPartTold_183 at h
  refine lv_goto (tgt := 2) hx hb dX6_qPartTold_183 (by decide) ?_
  exact hk2 σ a1 h _ _ hM hS _ (lv_sub hl [0, 1] rfl)
set_option maxHeartbeats 4000000 in
theorem wX6_qPartTold_144 {p : Program} {l : Launch} {e : Env} {s : State} {m : MethodId} {args : Array Value} {below : List Frame} {meth : Method} {c : Code} {G : mG} {b : Nat} (S : CallFix p m c cX6_qPartTold 6 s args lw_all RX6) (hr : meth.sig.returnType = none) (hlk : meth.locks = false) (hK : mK G s) {x : MS} {k2 : MS → Int32 → Option (MS)} (hk2 : ∀ σ a1, k2 σ a1 = some x → mGo p l e rmX6_qPartTold s m args below meth c G b (MQ below (mQv G b x) args s 0 0 (mB b)) 6 2 [(0, .ref b), (1, .int a1)] [] σ) : ∀ (σ : MS) (a1 : Int32), fX6_qPartTold_144 k2 σ a1 = some x → mGo p l e rmX6_qPartTold s m args below meth c G b (MQ below (mQv G b x) args s 0 0 (mB b)) 6 144 [(0, .ref b), (1, .int a1)] [] σ := by
  obtain ⟨hx, hb, hml, hown, hts⟩ := id S
  intro σ a1 h H locs hM hS ls hl
  unfold fX6_qPartTold_144 at h
  refine lv_aload_n hx hb dX6_qPartTold_144 rfl (lv_at hl 0 rfl) ?_
  refine lv_bipush (v := (40 : Int32)) hx hb dX6_qPartTold_145 (by decide) ?_
  replace h := ob h
  obtain ⟨x1, hx1, h⟩ := h
  refine kX6_asksSign S hK hM hS hx1 ⟨Nat.le_of_ble_eq_true rfl, Nat.le_of_ble_eq_true rfl⟩ hl.1 (Nat.le_of_ble_eq_true rfl) dX6_qPartTold_147 (fun H locs hM hS => ?_)
  refine lv_goto (tgt := 183) hx hb dX6_qPartTold_150 (by decide) ?_
  exact wX6_qPartTold_183 S hr hlk hK hk2 x1 a1 h _ _ hM hS _ (lv_sub hl [0, 1] rfl)
set_option maxHeartbeats 4000000 in
theorem wX6_qPartTold_139 {p : Program} {l : Launch} {e : Env} {s : State} {m : MethodId} {args : Array Value} {below : List Frame} {meth : Method} {c : Code} {G : mG} {b : Nat} (S : CallFix p m c cX6_qPartTold 6 s args lw_all RX6) (hr : meth.sig.returnType = none) (hlk : meth.locks = false) (hK : mK G s) {x : MS} {k2 : MS → Int32 → Option (MS)} (hk2 : ∀ σ a1, k2 σ a1 = some x → mGo p l e rmX6_qPartTold s m args below meth c G b (MQ below (mQv G b x) args s 0 0 (mB b)) 6 2 [(0, .ref b), (1, .int a1)] [] σ) : ∀ (σ : MS) (a1 : Int32) (a5 : Int32) (t1 : Int32), fX6_qPartTold_139 k2 σ a1 a5 t1 = some x → mGo p l e rmX6_qPartTold s m args below meth c G b (MQ below (mQv G b x) args s 0 0 (mB b)) 6 139 [(0, .ref b), (1, .int a1), (5, .int a5)] [.int t1, .ref b] σ := by
  obtain ⟨hx, hb, hml, hown, hts⟩ := id S
  intro σ a1 a5 t1 h H locs hM hS ls hl
  unfold fX6_qPartTold_139 at h
  refine lv_iload hx hb dX6_qPartTold_139 (lv_at hl 2 rfl) ?_
  replace h := ob h
  obtain ⟨x1, hx1, h⟩ := h
  refine kX6_qOpens S hK hM hS hx1 ⟨Nat.le_of_ble_eq_true rfl, Nat.le_of_ble_eq_true rfl⟩ hl.1 (Nat.le_of_ble_eq_true rfl) dX6_qPartTold_141 (fun H locs hM hS => ?_)
  exact wX6_qPartTold_144 S hr hlk hK hk2 x1 a1 h _ _ hM hS _ (lv_sub hl [0, 1] rfl)
set_option maxHeartbeats 4000000 in
theorem wX6_qPartTold_118 {p : Program} {l : Launch} {e : Env} {s : State} {m : MethodId} {args : Array Value} {below : List Frame} {meth : Method} {c : Code} {G : mG} {b : Nat} (S : CallFix p m c cX6_qPartTold 6 s args lw_all RX6) (hr : meth.sig.returnType = none) (hlk : meth.locks = false) (hK : mK G s) {x : MS} {k2 : MS → Int32 → Option (MS)} (hk2 : ∀ σ a1, k2 σ a1 = some x → mGo p l e rmX6_qPartTold s m args below meth c G b (MQ below (mQv G b x) args s 0 0 (mB b)) 6 2 [(0, .ref b), (1, .int a1)] [] σ) : ∀ (σ : MS) (a1 : Int32) (a4 : Int32) (t0 : Int32), fX6_qPartTold_118 k2 σ a1 a4 t0 = some x → mGo p l e rmX6_qPartTold s m args below meth c G b (MQ below (mQv G b x) args s 0 0 (mB b)) 6 118 [(0, .ref b), (1, .int a1), (4, .int a4)] [.int t0] σ := by
  obtain ⟨hx, hb, hml, hown, hts⟩ := id S
  intro σ a1 a4 t0 h H locs hM hS ls hl
  unfold fX6_qPartTold_118 at h
  refine lv_istore (lv' := [(5, .int t0), (0, .ref b), (1, .int a1), (4, .int a4)]) hx hb dX6_qPartTold_118 hl (by decide) rfl (fun ls hl => ?_)
  refine lv_iload hx hb dX6_qPartTold_120 (lv_at hl 0 rfl) ?_
  refine lv_iconst (v := (-1 : Int32)) hx hb dX6_qPartTold_122 (by decide) ?_
  refine lv_icmp_eq (tgt := 144) hx hb dX6_qPartTold_123 (by decide) (fun c1 => ?_) (fun c1 => ?_)
  · replace h := it c1 h
    exact wX6_qPartTold_144 S hr hlk hK hk2 σ a1 h _ _ hM hS _ (lv_sub hl [1, 2] rfl)
  replace h := ie c1 h
  refine lv_aload_n hx hb dX6_qPartTold_126 rfl (lv_at hl 1 rfl) ?_
  refine lv_iload hx hb dX6_qPartTold_127 (lv_at hl 3 rfl) ?_
  refine lv_if_eq (tgt := 137) hx hb dX6_qPartTold_129 (by decide) (fun c2 => ?_) (fun c2 => ?_)
  · replace h := it c2 h
    refine lv_bipush (v := (22 : Int32)) hx hb dX6_qPartTold_137 (by decide) ?_
    exact wX6_qPartTold_139 S hr hlk hK hk2 σ a1 t0 (22 : Int32) h _ _ hM hS _ (lv_sub hl [1, 2, 0] rfl)
  replace h := ie c2 h
  refine lv_bipush (v := (21 : Int32)) hx hb dX6_qPartTold_132 (by decide) ?_
  refine lv_goto (tgt := 139) hx hb dX6_qPartTold_134 (by decide) ?_
  exact wX6_qPartTold_139 S hr hlk hK hk2 σ a1 t0 (21 : Int32) h _ _ hM hS _ (lv_sub hl [1, 2, 0] rfl)
set_option maxHeartbeats 4000000 in
theorem wX6_qPartTold_101 {p : Program} {l : Launch} {e : Env} {s : State} {m : MethodId} {args : Array Value} {below : List Frame} {meth : Method} {c : Code} {G : mG} {b : Nat} (S : CallFix p m c cX6_qPartTold 6 s args lw_all RX6) (hr : meth.sig.returnType = none) (hlk : meth.locks = false) (hK : mK G s) {x : MS} {k2 : MS → Int32 → Option (MS)} (hk2 : ∀ σ a1, k2 σ a1 = some x → mGo p l e rmX6_qPartTold s m args below meth c G b (MQ below (mQv G b x) args s 0 0 (mB b)) 6 2 [(0, .ref b), (1, .int a1)] [] σ) : ∀ (σ : MS) (a1 : Int32) (a4 : Int32), fX6_qPartTold_101 k2 σ a1 a4 = some x → mGo p l e rmX6_qPartTold s m args below meth c G b (MQ below (mQv G b x) args s 0 0 (mB b)) 6 101 [(0, .ref b), (1, .int a1), (4, .int a4)] [] σ := by
  obtain ⟨hx, hb, hml, hown, hts⟩ := id S
  intro σ a1 a4 h H locs hM hS ls hl
  unfold fX6_qPartTold_101 at h
  refine lv_aload_n hx hb dX6_qPartTold_101 rfl (lv_at hl 0 rfl) ?_
  replace h := ob h
  obtain ⟨x1, hx1, h⟩ := h
  refine kX6_look S hK hM hS hx1 ⟨Nat.le_of_ble_eq_true rfl, Nat.le_of_ble_eq_true rfl⟩ hl.1 (Nat.le_of_ble_eq_true rfl) dX6_qPartTold_102 (fun H locs hM hS => ?_)
  refine lv_bipush (v := (40 : Int32)) hx hb dX6_qPartTold_105 (by decide) ?_
  refine lv_icmp_ne (tgt := 117) hx hb dX6_qPartTold_107 (by decide) (fun c2 => ?_) (fun c2 => ?_)
  · replace h := ie c2 h
    refine lv_iconst (v := (-1 : Int32)) hx hb dX6_qPartTold_117 (by decide) ?_
    exact wX6_qPartTold_118 S hr hlk hK hk2 x1.1 a1 a4 (-1 : Int32) h _ _ hM hS _ (lv_sub hl [0, 1, 2] rfl)
  replace h := it c2 h
  refine lv_aload_n hx hb dX6_qPartTold_110 rfl (lv_at hl 0 rfl) ?_
  refine m_get S hK hM 2 (Nat.le_of_ble_eq_true rfl) q1734 (v := .int (x1.1.1 2)) rfl dX6_qPartTold_111 ?_
  refine lv_goto (tgt := 118) hx hb dX6_qPartTold_114 (by decide) ?_
  exact wX6_qPartTold_118 S hr hlk hK hk2 x1.1 a1 a4 (x1.1.1 2) h _ _ hM hS _ (lv_sub hl [0, 1, 2] rfl)
set_option maxHeartbeats 4000000 in
theorem wX6_qPartTold_78 {p : Program} {l : Launch} {e : Env} {s : State} {m : MethodId} {args : Array Value} {below : List Frame} {meth : Method} {c : Code} {G : mG} {b : Nat} (S : CallFix p m c cX6_qPartTold 6 s args lw_all RX6) (hr : meth.sig.returnType = none) (hlk : meth.locks = false) (hK : mK G s) {x : MS} {k2 : MS → Int32 → Option (MS)} (hk2 : ∀ σ a1, k2 σ a1 = some x → mGo p l e rmX6_qPartTold s m args below meth c G b (MQ below (mQv G b x) args s 0 0 (mB b)) 6 2 [(0, .ref b), (1, .int a1)] [] σ) : ∀ (σ : MS) (a1 : Int32), fX6_qPartTold_78 k2 σ a1 = some x → mGo p l e rmX6_qPartTold s m args below meth c G b (MQ below (mQv G b x) args s 0 0 (mB b)) 6 78 [(0, .ref b), (1, .int a1)] [] σ := by
  obtain ⟨hx, hb, hml, hown, hts⟩ := id S
  intro σ a1 h H locs hM hS ls hl
  unfold fX6_qPartTold_78 at h
  refine lv_aload_n hx hb dX6_qPartTold_78 rfl (lv_at hl 0 rfl) ?_
  refine lv_aload_n hx hb dX6_qPartTold_79 rfl (lv_at hl 0 rfl) ?_
  refine m_get S hK hM 81 (Nat.le_of_ble_eq_true rfl) q1813 (v := .ref (ma b 81)) rfl dX6_qPartTold_80 ?_
  replace h := ob h
  obtain ⟨x1, hx1, h⟩ := h
  refine kX6_takes S hK hM hS hx1 ⟨Nat.le_of_ble_eq_true rfl, Nat.le_of_ble_eq_true rfl⟩ hl.1 (Nat.le_of_ble_eq_true rfl) dX6_qPartTold_83 (fun H locs hM hS => ?_)
  refine lv_istore (lv' := [(4, .int x1.2), (0, .ref b), (1, .int a1)]) hx hb dX6_qPartTold_86 hl (by decide) rfl (fun ls hl => ?_)
  refine lv_iload hx hb dX6_qPartTold_88 (lv_at hl 0 rfl) ?_
  refine lv_if_ne (tgt := 101) hx hb dX6_qPartTold_90 (by decide) (fun c2 => ?_) (fun c2 => ?_)
  · replace h := ie c2 h
    exact wX6_qPartTold_101 S hr hlk hK hk2 x1.1 a1 x1.2 h _ _ hM hS _ (lv_sub hl [1, 2, 0] rfl)
  replace h := it c2 h
  refine lv_aload_n hx hb dX6_qPartTold_93 rfl (lv_at hl 1 rfl) ?_
  refine lv_aload_n hx hb dX6_qPartTold_94 rfl (lv_at hl 1 rfl) ?_
  refine m_get S hK hM 82 (Nat.le_of_ble_eq_true rfl) q1814 (v := .ref (ma b 82)) rfl dX6_qPartTold_95 ?_
  replace h := ob h
  obtain ⟨x3, hx3, h⟩ := h
  refine kX6_asks S hK hM hS hx3 ⟨Nat.le_of_ble_eq_true rfl, Nat.le_of_ble_eq_true rfl⟩ hl.1 (Nat.le_of_ble_eq_true rfl) dX6_qPartTold_98 (fun H locs hM hS => ?_)
  exact wX6_qPartTold_101 S hr hlk hK hk2 x3 a1 x1.2 h _ _ hM hS _ (lv_sub hl [1, 2, 0] rfl)
set_option maxHeartbeats 4000000 in
theorem wX6_qPartTold_237 {p : Program} {l : Launch} {e : Env} {s : State} {m : MethodId} {args : Array Value} {below : List Frame} {meth : Method} {c : Code} {G : mG} {b : Nat} (S : CallFix p m c cX6_qPartTold 6 s args lw_all RX6) (hr : meth.sig.returnType = none) (hlk : meth.locks = false) (hK : mK G s) {x : MS} : ∀ (σ : MS) (t1 : Int32), fX6_qPartTold_237 σ t1 = some x → mGo p l e rmX6_qPartTold s m args below meth c G b (MQ below (mQv G b x) args s 0 0 (mB b)) 6 237 [(0, .ref b)] [.int t1, .ref b] σ := by
  obtain ⟨hx, hb, hml, hown, hts⟩ := id S
  intro σ t1 h H locs hM hS ls hl
  unfold fX6_qPartTold_237 at h
  replace h := ob h
  obtain ⟨x1, hx1, h⟩ := h
  refine kX6_qCode S hK hM hS hx1 ⟨Nat.le_of_ble_eq_true rfl, Nat.le_of_ble_eq_true rfl⟩ hl.1 (Nat.le_of_ble_eq_true rfl) dX6_qPartTold_237 (fun H locs hM hS => ?_)
  refine lv_aload_n hx hb dX6_qPartTold_240 rfl (lv_at hl 0 rfl) ?_
  replace h := ob h
  obtain ⟨x2, hx2, h⟩ := h
  refine kX6_qEndsPart S hK hM hS hx2 ⟨Nat.le_of_ble_eq_true rfl, Nat.le_of_ble_eq_true rfl⟩ hl.1 (Nat.le_of_ble_eq_true rfl) dX6_qPartTold_241 (fun H locs hM hS => ?_)
  exact m_vret S hr hlk hM hS h dX6_qPartTold_244
set_option maxHeartbeats 4000000 in
theorem wX6_qPartTold_212 {p : Program} {l : Launch} {e : Env} {s : State} {m : MethodId} {args : Array Value} {below : List Frame} {meth : Method} {c : Code} {G : mG} {b : Nat} (S : CallFix p m c cX6_qPartTold 6 s args lw_all RX6) (hr : meth.sig.returnType = none) (hlk : meth.locks = false) (hK : mK G s) {x : MS} : ∀ (σ : MS) (a2 : Int32), fX6_qPartTold_212 σ a2 = some x → mGo p l e rmX6_qPartTold s m args below meth c G b (MQ below (mQv G b x) args s 0 0 (mB b)) 6 212 [(0, .ref b), (2, .int a2)] [] σ := by
  obtain ⟨hx, hb, hml, hown, hts⟩ := id S
  intro σ a2 h H locs hM hS ls hl
  unfold fX6_qPartTold_212 at h
  refine lv_aload_n hx hb dX6_qPartTold_212 rfl (lv_at hl 0 rfl) ?_
  refine lv_iload_n hx hb dX6_qPartTold_213 rfl (lv_at hl 1 rfl) ?_
  refine lv_iconst (v := (-1 : Int32)) hx hb dX6_qPartTold_214 (by decide) ?_
  refine lv_icmp_eq (tgt := 225) hx hb dX6_qPartTold_215 (by decide) (fun c1 => ?_) (fun c1 => ?_)
  rotate_left 1
  · replace h := ie c1 h
    refine lv_bipush (v := (40 : Int32)) hx hb dX6_qPartTold_218 (by decide) ?_
    refine lv_iload_n hx hb dX6_qPartTold_220 rfl (lv_at hl 1 rfl) ?_
    refine lv_iadd hx hb dX6_qPartTold_221 ?_
    refine lv_goto (tgt := 237) hx hb dX6_qPartTold_222 (by decide) ?_
    exact wX6_qPartTold_237 S hr hlk hK σ ((40 : Int32) + a2) h _ _ hM hS _ (lv_sub hl [0] rfl)
  replace h := it c1 h
  refine lv_sipush (v := (1000 : Int32)) hx hb dX6_qPartTold_225 (by decide) ?_
  refine lv_aload_n hx hb dX6_qPartTold_228 rfl (lv_at hl 0 rfl) ?_
  refine lv_iconst (v := (0 : Int32)) hx hb dX6_qPartTold_229 (by decide) ?_
  refine lv_sipush (v := (9999 : Int32)) hx hb dX6_qPartTold_230 (by decide) ?_
  replace h := ob h
  obtain ⟨x2, hx2, h⟩ := h
  refine kX6_number S hK hM hS hx2 ⟨Nat.le_of_ble_eq_true rfl, Nat.le_of_ble_eq_true rfl⟩ hl.1 (Nat.le_of_ble_eq_true rfl) dX6_qPartTold_233 (fun H locs hM hS => ?_)
  refine lv_iadd hx hb dX6_qPartTold_236 ?_
  exact wX6_qPartTold_237 S hr hlk hK x2.1 ((1000 : Int32) + x2.2) h _ _ hM hS _ (lv_sub hl [0] rfl)
set_option maxHeartbeats 4000000 in
theorem wX6_qPartTold_186 {p : Program} {l : Launch} {e : Env} {s : State} {m : MethodId} {args : Array Value} {below : List Frame} {meth : Method} {c : Code} {G : mG} {b : Nat} (S : CallFix p m c cX6_qPartTold 6 s args lw_all RX6) (hr : meth.sig.returnType = none) (hlk : meth.locks = false) (hK : mK G s) {x : MS} : ∀ (σ : MS), fX6_qPartTold_186 σ = some x → mGo p l e rmX6_qPartTold s m args below meth c G b (MQ below (mQv G b x) args s 0 0 (mB b)) 6 186 [(0, .ref b)] [] σ := by
  obtain ⟨hx, hb, hml, hown, hts⟩ := id S
  intro σ h H locs hM hS ls hl
  unfold fX6_qPartTold_186 at h
  refine lv_aload_n hx hb dX6_qPartTold_186 rfl (lv_at hl 0 rfl) ?_
  refine m_get S hK hM 5 (Nat.le_of_ble_eq_true rfl) q1737 (v := .int (σ.1 5)) rfl dX6_qPartTold_187 ?_
  refine lv_if_eq (tgt := 194) hx hb dX6_qPartTold_190 (by decide) (fun c1 => ?_) (fun c1 => ?_)
  rotate_left 1
  · replace h := ie c1 h
    exact m_vret S hr hlk hM hS h dX6_qPartTold_193
  replace h := it c1 h
  refine lv_aload_n hx hb dX6_qPartTold_194 rfl (lv_at hl 0 rfl) ?_
  refine lv_iconst (v := (0 : Int32)) hx hb dX6_qPartTold_195 (by decide) ?_
  refine lv_bipush (v := (8 : Int32)) hx hb dX6_qPartTold_196 (by decide) ?_
  replace h := ob h
  obtain ⟨x2, hx2, h⟩ := h
  refine kX6_qWordOf S hK hM hS hx2 ⟨Nat.le_of_ble_eq_true rfl, Nat.le_of_ble_eq_true rfl⟩ hl.1 (Nat.le_of_ble_eq_true rfl) dX6_qPartTold_198 (fun H locs hM hS => ?_)
  refine lv_istore_n (lv' := [(2, .int x2.2), (0, .ref b)]) hx hb dX6_qPartTold_201 rfl hl (by decide) rfl (fun ls hl => ?_)
  refine lv_iload_n hx hb dX6_qPartTold_202 rfl (lv_at hl 0 rfl) ?_
  refine lv_iconst (v := (-1 : Int32)) hx hb dX6_qPartTold_203 (by decide) ?_
  refine lv_icmp_eq (tgt := 212) hx hb dX6_qPartTold_204 (by decide) (fun c3 => ?_) (fun c3 => ?_)
  · replace h := it c3 h
    exact wX6_qPartTold_212 S hr hlk hK x2.1 x2.2 h _ _ hM hS _ (lv_sub hl [1, 0] rfl)
  replace h := ie c3 h
  refine lv_aload_n hx hb dX6_qPartTold_207 rfl (lv_at hl 1 rfl) ?_
  refine lv_iload_n hx hb dX6_qPartTold_208 rfl (lv_at hl 0 rfl) ?_
  replace h := ob h
  obtain ⟨x4, hx4, h⟩ := h
  refine kX6_qAsksWord S hK hM hS hx4 ⟨Nat.le_of_ble_eq_true rfl, Nat.le_of_ble_eq_true rfl⟩ hl.1 (Nat.le_of_ble_eq_true rfl) dX6_qPartTold_209 (fun H locs hM hS => ?_)
  exact wX6_qPartTold_212 S hr hlk hK x4 x2.2 h _ _ hM hS _ (lv_sub hl [1, 0] rfl)
set_option maxHeartbeats 4000000 in
theorem wX6_qPartTold_2 {p : Program} {l : Launch} {e : Env} {s : State} {m : MethodId} {args : Array Value} {below : List Frame} {meth : Method} {c : Code} {G : mG} {b : Nat} (S : CallFix p m c cX6_qPartTold 6 s args lw_all RX6) (hr : meth.sig.returnType = none) (hlk : meth.locks = false) (hK : mK G s) {x : MS} : ∀ (n : Nat) (σ : MS) (a1 : Int32), fX6_qPartTold_2 n σ a1 = some x → mGo p l e rmX6_qPartTold s m args below meth c G b (MQ below (mQv G b x) args s 0 0 (mB b)) 6 2 [(0, .ref b), (1, .int a1)] [] σ := by
  obtain ⟨hx, hb, hml, hown, hts⟩ := id S
  intro n
  induction n with
  | zero => intro σ a1 h; cases h
  | succ n ih =>
    intro σ a1 h H locs hM hS ls hl
    rw [fX6_qPartTold_2] at h
    refine lv_iload_n hx hb dX6_qPartTold_2 rfl (lv_at hl 1 rfl) ?_
    refine lv_if_eq (tgt := 186) hx hb dX6_qPartTold_3 (by decide) (fun c1 => ?_) (fun c1 => ?_)
    · replace h := it c1 h
      exact wX6_qPartTold_186 S hr hlk hK σ h _ _ hM hS _ (lv_sub hl [0] rfl)
    replace h := ie c1 h
    refine lv_aload_n hx hb dX6_qPartTold_6 rfl (lv_at hl 0 rfl) ?_
    refine m_get S hK hM 5 (Nat.le_of_ble_eq_true rfl) q1737 (v := .int (σ.1 5)) rfl dX6_qPartTold_7 ?_
    refine lv_if_ne (tgt := 186) hx hb dX6_qPartTold_10 (by decide) (fun c2 => ?_) (fun c2 => ?_)
    · replace h := ie c2 h
      exact wX6_qPartTold_186 S hr hlk hK σ h _ _ hM hS _ (lv_sub hl [0] rfl)
    replace h := it c2 h
    refine lv_aload_n hx hb dX6_qPartTold_13 rfl (lv_at hl 0 rfl) ?_
    replace h := ob h
    obtain ⟨x3, hx3, h⟩ := h
    refine kX6_look S hK hM hS hx3 ⟨Nat.le_of_ble_eq_true rfl, Nat.le_of_ble_eq_true rfl⟩ hl.1 (Nat.le_of_ble_eq_true rfl) dX6_qPartTold_14 (fun H locs hM hS => ?_)
    refine lv_istore_n (lv' := [(2, .int x3.2), (0, .ref b), (1, .int a1)]) hx hb dX6_qPartTold_17 rfl hl (by decide) rfl (fun ls hl => ?_)
    refine lv_aload_n hx hb dX6_qPartTold_18 rfl (lv_at hl 1 rfl) ?_
    refine lv_bipush (v := (8 : Int32)) hx hb dX6_qPartTold_19 (by decide) ?_
    refine lv_bipush (v := (9 : Int32)) hx hb dX6_qPartTold_21 (by decide) ?_
    replace h := ob h
    obtain ⟨x4, hx4, h⟩ := h
    refine kX6_qWordOf S hK hM hS hx4 ⟨Nat.le_of_ble_eq_true rfl, Nat.le_of_ble_eq_true rfl⟩ hl.1 (Nat.le_of_ble_eq_true rfl) dX6_qPartTold_23 (fun H locs hM hS => ?_)
    refine lv_istore_n (lv' := [(3, .int x4.2), (2, .int x3.2), (0, .ref b), (1, .int a1)]) hx hb dX6_qPartTold_26 rfl hl (by decide) rfl (fun ls hl => ?_)
    refine lv_iload_n hx hb dX6_qPartTold_27 rfl (lv_at hl 1 rfl) ?_
    refine lv_bipush (v := (40 : Int32)) hx hb dX6_qPartTold_28 (by decide) ?_
    refine lv_icmp_ne (tgt := 56) hx hb dX6_qPartTold_30 (by decide) (fun c5 => ?_) (fun c5 => ?_)
    rotate_left 1
    · replace h := it c5 h
      refine lv_aload_n hx hb dX6_qPartTold_33 rfl (lv_at hl 2 rfl) ?_
      refine lv_bipush (v := (20 : Int32)) hx hb dX6_qPartTold_34 (by decide) ?_
      refine lv_aload_n hx hb dX6_qPartTold_36 rfl (lv_at hl 2 rfl) ?_
      refine m_get S hK hM 2 (Nat.le_of_ble_eq_true rfl) q1734 (v := .int (x4.1.1 2)) rfl dX6_qPartTold_37 ?_
      replace h := ob h
      obtain ⟨x13, hx13, h⟩ := h
      refine kX6_qOpens S hK hM hS hx13 ⟨Nat.le_of_ble_eq_true rfl, Nat.le_of_ble_eq_true rfl⟩ hl.1 (Nat.le_of_ble_eq_true rfl) dX6_qPartTold_40 (fun H locs hM hS => ?_)
      refine lv_aload_n hx hb dX6_qPartTold_43 rfl (lv_at hl 2 rfl) ?_
      refine lv_dup hx hb dX6_qPartTold_44 rfl ?_
      refine m_get S hK hM 2 (Nat.le_of_ble_eq_true rfl) q1734 (v := .int (x13.1 2)) rfl dX6_qPartTold_45 ?_
      refine lv_iconst (v := (1 : Int32)) hx hb dX6_qPartTold_48 (by decide) ?_
      refine lv_iadd hx hb dX6_qPartTold_49 ?_
      refine m_putI S hK hM hS 2 (Nat.le_of_ble_eq_true rfl) rfl q1734 rfl (ty := .int) rfl rfl rfl dX6_qPartTold_50 (fun H locs hM hS => ?_)
      refine lv_goto (tgt := 183) hx hb dX6_qPartTold_53 (by decide) ?_
      exact wX6_qPartTold_183 S hr hlk hK ih (sI x13 2 ((x13.1 2) + (1 : Int32))) a1 h _ _ hM hS _ (lv_sub hl [2, 3] rfl)
    replace h := ie c5 h
    refine lv_aload_n hx hb dX6_qPartTold_56 rfl (lv_at hl 2 rfl) ?_
    refine lv_aload_n hx hb dX6_qPartTold_57 rfl (lv_at hl 2 rfl) ?_
    refine m_get S hK hM 81 (Nat.le_of_ble_eq_true rfl) q1813 (v := .ref (ma b 81)) rfl dX6_qPartTold_58 ?_
    replace h := ob h
    obtain ⟨x6, hx6, h⟩ := h
    refine kX6_isHere S hK hM hS hx6 ⟨Nat.le_of_ble_eq_true rfl, Nat.le_of_ble_eq_true rfl⟩ hl.1 (Nat.le_of_ble_eq_true rfl) dX6_qPartTold_61 (fun H locs hM hS => ?_)
    refine lv_if_ne (tgt := 78) hx hb dX6_qPartTold_64 (by decide) (fun c7 => ?_) (fun c7 => ?_)
    · replace h := ie c7 h
      exact wX6_qPartTold_78 S hr hlk hK ih x6.1 a1 h _ _ hM hS _ (lv_sub hl [2, 3] rfl)
    replace h := it c7 h
    refine lv_aload_n hx hb dX6_qPartTold_67 rfl (lv_at hl 2 rfl) ?_
    refine lv_aload_n hx hb dX6_qPartTold_68 rfl (lv_at hl 2 rfl) ?_
    refine m_get S hK hM 82 (Nat.le_of_ble_eq_true rfl) q1814 (v := .ref (ma b 82)) rfl dX6_qPartTold_69 ?_
    replace h := ob h
    obtain ⟨x8, hx8, h⟩ := h
    refine kX6_isHere S hK hM hS hx8 ⟨Nat.le_of_ble_eq_true rfl, Nat.le_of_ble_eq_true rfl⟩ hl.1 (Nat.le_of_ble_eq_true rfl) dX6_qPartTold_72 (fun H locs hM hS => ?_)
    refine lv_if_eq (tgt := 153) hx hb dX6_qPartTold_75 (by decide) (fun c9 => ?_) (fun c9 => ?_)
    rotate_left 1
    · replace h := ie c9 h
      exact wX6_qPartTold_78 S hr hlk hK ih x8.1 a1 h _ _ hM hS _ (lv_sub hl [2, 3] rfl)
    replace h := it c9 h
    refine lv_iload_n hx hb dX6_qPartTold_153 rfl (lv_at hl 0 rfl) ?_
    refine lv_iconst (v := (-1 : Int32)) hx hb dX6_qPartTold_154 (by decide) ?_
    refine lv_icmp_eq (tgt := 181) hx hb dX6_qPartTold_155 (by decide) (fun c10 => ?_) (fun c10 => ?_)
    · replace h := it c10 h
      refine lv_iconst (v := (0 : Int32)) hx hb dX6_qPartTold_181 (by decide) ?_
      refine lv_istore_n (lv' := [(1, .int (0 : Int32)), (3, .int x4.2), (2, .int x3.2), (0, .ref b)]) hx hb dX6_qPartTold_182 rfl hl (by decide) rfl (fun ls hl => ?_)
      exact wX6_qPartTold_183 S hr hlk hK ih x8.1 (0 : Int32) h _ _ hM hS _ (lv_sub hl [3, 0] rfl)
    replace h := ie c10 h
    refine lv_aload_n hx hb dX6_qPartTold_158 rfl (lv_at hl 2 rfl) ?_
    refine lv_bipush (v := (60 : Int32)) hx hb dX6_qPartTold_159 (by decide) ?_
    refine lv_iload_n hx hb dX6_qPartTold_161 rfl (lv_at hl 0 rfl) ?_
    refine lv_iadd hx hb dX6_qPartTold_162 ?_
    refine lv_bipush (v := (8 : Int32)) hx hb dX6_qPartTold_163 (by decide) ?_
    refine lv_isub hx hb dX6_qPartTold_165 ?_
    refine lv_aload_n hx hb dX6_qPartTold_166 rfl (lv_at hl 2 rfl) ?_
    refine m_get S hK hM 2 (Nat.le_of_ble_eq_true rfl) q1734 (v := .int (x8.1.1 2)) rfl dX6_qPartTold_167 ?_
    replace h := ob h
    obtain ⟨x11, hx11, h⟩ := h
    refine kX6_qOpens S hK hM hS hx11 ⟨Nat.le_of_ble_eq_true rfl, Nat.le_of_ble_eq_true rfl⟩ hl.1 (Nat.le_of_ble_eq_true rfl) dX6_qPartTold_170 (fun H locs hM hS => ?_)
    refine lv_aload_n hx hb dX6_qPartTold_173 rfl (lv_at hl 2 rfl) ?_
    refine lv_iload_n hx hb dX6_qPartTold_174 rfl (lv_at hl 0 rfl) ?_
    replace h := ob h
    obtain ⟨x12, hx12, h⟩ := h
    refine kX6_qAsksWord S hK hM hS hx12 ⟨Nat.le_of_ble_eq_true rfl, Nat.le_of_ble_eq_true rfl⟩ hl.1 (Nat.le_of_ble_eq_true rfl) dX6_qPartTold_175 (fun H locs hM hS => ?_)
    refine lv_goto (tgt := 183) hx hb dX6_qPartTold_178 (by decide) ?_
    exact wX6_qPartTold_183 S hr hlk hK ih x12 a1 h _ _ hM hS _ (lv_sub hl [2, 3] rfl)
set_option maxHeartbeats 4000000 in
theorem metX6_qPartTold {l : Launch} {G : mG} {b : Nat} {σ : MS} {x : MS} (h : fX6_qPartTold σ = some x) : Met l yX6_qPartTold (ws_ yX6_qPartTold cX6_qPartTold 6 (none)) rmX6_qPartTold (mP G b σ [.ref b]) (mQv G b x) 0 0 (mB b) := by
  refine m_entry (by decide) rfl (Nat.le_of_ble_eq_true rfl) ?_
  intro p e s m below meth c S hr hlk hK hM hS ls hl
  replace hl : lv_has ls 6 [(0, .ref b)] := hl
  obtain ⟨hx, hb, hml, hown, hts⟩ := id S
  unfold fX6_qPartTold at h
  refine lv_iconst (v := (1 : Int32)) hx hb dX6_qPartTold_0 (by decide) ?_
  refine lv_istore_n (lv' := [(1, .int (1 : Int32)), (0, .ref b)]) hx hb dX6_qPartTold_1 rfl hl (by decide) rfl (fun ls hl => ?_)
  exact wX6_qPartTold_2 S hr hlk hK FU σ (1 : Int32) h _ _ hM hS _ (lv_sub hl [1, 0] rfl)
theorem kX6_qPartTold {p : Program} {l : Launch} {e : Env} {R : Room} {s : State} {m : MethodId} {args : Array Value} {below : List Frame} {meth : Method} {c : Code} {H H0 : Heap} {locs : List Loc} {Q : State → Prop} {cc : ByteArray} {nL pc : Nat} {ls : Array Slot} {rest : List Value} {G : mG} {b : Nat} {σ : MS} {x : MS} (S : CallFix p m c cc nL s args lw_all RX6) (hK : mK G s) (hM : MW G b σ H) (hS : va_S (mB b) H0 H locs) (hf : fX6_qPartTold σ = some x) (hR : rmX6_qPartTold.frames + 1 ≤ R.frames ∧ 8 + (6 + 11) + rmX6_qPartTold.locals ≤ R.locals) (hsize : ls.size = nL) (hr : (rest.map fun v => v.category).sum ≤ 8) (hdg : decode cc pc = .ok (.invokevirtual 631, 3)) (kk : ∀ (H1 : Heap) (locs1 : List Loc), MW G b x H1 → va_S (mB b) H0 H1 locs1 → W p l e R s m args below meth c H1 locs1 0 0 Q (F0 m (pc + 3) ls (rest))) : W p l e R s m args below meth c H locs 0 0 Q (F0 m pc ls (.ref b :: rest)) :=
  m_cVv (As := []) S hK hM hS (metX6_qPartTold hf) (cwV 0 S.2.2.2.2 (lw_V q2165 q2167 qs90 q179 q2168) rfl rfl rfl (by decide +kernel) hR) ⟨Nat.zero_le _, Nat.zero_le _⟩ rfl hsize rfl hr hdg kk
/-! qSums()V -/
abbrev rmX6_qSums : Room := { frames := 7, cells := 0, slots := 0, locals := 131 }
def fX6_qSums_49 (k15 : MS → Int32 → Int32 → Option (MS)) (σ : MS) (a1 : Int32) (t0 : Int32) : Option (MS) :=
  k15 σ a1 t0
def fX6_qSums_48 (k15 : MS → Int32 → Int32 → Option (MS)) (σ : MS) (a1 : Int32) : Option (MS) :=
  fX6_qSums_49 k15 σ a1 (0 : Int32)
def fX6_qSums_78 (σ : MS) (a1 : Int32) : Option (MS) :=
  some (sI σ 96 a1)
def fX6_qSums_53 : Nat → MS → Int32 → Option (MS)
  | 0, _, _ => none
  | n + 1, σ, a1 =>
    if (σ.1 5) = 0 then
      if (σ.1 94) ≤ (σ.1 96) then
        fX6_qSums_78 σ a1
      else
      (fX6_qDrops σ).bind fun x3 =>
      fX6_qSums_53 n x3 a1
    else
    fX6_qSums_78 σ a1
def fX6_qSums_15 : Nat → MS → Int32 → Int32 → Option (MS)
  | 0, _, _, _ => none
  | n + 1, σ, a1, a2 =>
    if a2 = 0 then
      fX6_qSums_53 FU σ a1
    else
    if (σ.1 5) = 0 then
      (fX6_qPartTold σ).bind fun x3 =>
      if (x3.1 5) = 0 then
        (fX6_qGoesOn x3).bind fun x5 =>
        if x5.2 = 0 then
          fX6_qSums_48 (fun σ' b1 b2 => fX6_qSums_15 n σ' b1 b2) x5.1 a1
        else
        fX6_qSums_49 (fun σ' b1 b2 => fX6_qSums_15 n σ' b1 b2) x5.1 a1 (1 : Int32)
      else
      fX6_qSums_48 (fun σ' b1 b2 => fX6_qSums_15 n σ' b1 b2) x3 a1
    else
    fX6_qSums_53 FU σ a1
def fX6_qSums (σ : MS) : Option (MS) :=
  fX6_qSums_15 FU (sI σ 96 (σ.1 94)) (σ.1 96) (1 : Int32)
set_option maxHeartbeats 4000000 in
theorem wX6_qSums_49 {p : Program} {l : Launch} {e : Env} {s : State} {m : MethodId} {args : Array Value} {below : List Frame} {meth : Method} {c : Code} {G : mG} {b : Nat} (S : CallFix p m c cX6_qSums 3 s args lw_all RX6) (hr : meth.sig.returnType = none) (hlk : meth.locks = false) (hK : mK G s) {x : MS} {k15 : MS → Int32 → Int32 → Option (MS)} (hk15 : ∀ σ a1 a2, k15 σ a1 a2 = some x → mGo p l e rmX6_qSums s m args below meth c G b (MQ below (mQv G b x) args s 0 0 (mB b)) 3 15 [(0, .ref b), (1, .int a1), (2, .int a2)] [] σ) : ∀ (σ : MS) (a1 : Int32) (t0 : Int32), fX6_qSums_49 k15 σ a1 t0 = some x → mGo p l e rmX6_qSums s m args below meth c G b (MQ below (mQv G b x) args s 0 0 (mB b)) 3 49 [(0, .ref b), (1, .int a1)] [.int t0] σ := by
  obtain ⟨hx, hb, hml, hown, hts⟩ := id S
  intro σ a1 t0 h H locs hM hS ls hl
  unfold fX6_qSums_49 at h
  refine lv_istore_n (lv' := [(2, .int t0), (0, .ref b), (1, .int a1)]) hx hb dX6_qSums_49 rfl hl (by decide) rfl (fun ls hl => ?_)
  refine lv_goto (tgt := 15) hx hb dX6_qSums_50 (by decide) ?_
  exact hk15 σ a1 t0 h _ _ hM hS _ (lv_sub hl [1, 2, 0] rfl)
set_option maxHeartbeats 4000000 in
theorem wX6_qSums_48 {p : Program} {l : Launch} {e : Env} {s : State} {m : MethodId} {args : Array Value} {below : List Frame} {meth : Method} {c : Code} {G : mG} {b : Nat} (S : CallFix p m c cX6_qSums 3 s args lw_all RX6) (hr : meth.sig.returnType = none) (hlk : meth.locks = false) (hK : mK G s) {x : MS} {k15 : MS → Int32 → Int32 → Option (MS)} (hk15 : ∀ σ a1 a2, k15 σ a1 a2 = some x → mGo p l e rmX6_qSums s m args below meth c G b (MQ below (mQv G b x) args s 0 0 (mB b)) 3 15 [(0, .ref b), (1, .int a1), (2, .int a2)] [] σ) : ∀ (σ : MS) (a1 : Int32), fX6_qSums_48 k15 σ a1 = some x → mGo p l e rmX6_qSums s m args below meth c G b (MQ below (mQv G b x) args s 0 0 (mB b)) 3 48 [(0, .ref b), (1, .int a1)] [] σ := by
  obtain ⟨hx, hb, hml, hown, hts⟩ := id S
  intro σ a1 h H locs hM hS ls hl
  unfold fX6_qSums_48 at h
  refine lv_iconst (v := (0 : Int32)) hx hb dX6_qSums_48 (by decide) ?_
  exact wX6_qSums_49 S hr hlk hK hk15 σ a1 (0 : Int32) h _ _ hM hS _ (lv_sub hl [0, 1] rfl)
set_option maxHeartbeats 4000000 in
theorem wX6_qSums_78 {p : Program} {l : Launch} {e : Env} {s : State} {m : MethodId} {args : Array Value} {below : List Frame} {meth : Method} {c : Code} {G : mG} {b : Nat} (S : CallFix p m c cX6_qSums 3 s args lw_all RX6) (hr : meth.sig.returnType = none) (hlk : meth.locks = false) (hK : mK G s) {x : MS} : ∀ (σ : MS) (a1 : Int32), fX6_qSums_78 σ a1 = some x → mGo p l e rmX6_qSums s m args below meth c G b (MQ below (mQv G b x) args s 0 0 (mB b)) 3 78 [(0, .ref b), (1, .int a1)] [] σ := by
  obtain ⟨hx, hb, hml, hown, hts⟩ := id S
  intro σ a1 h H locs hM hS ls hl
  unfold fX6_qSums_78 at h
  refine lv_aload_n hx hb dX6_qSums_78 rfl (lv_at hl 0 rfl) ?_
  refine lv_iload_n hx hb dX6_qSums_79 rfl (lv_at hl 1 rfl) ?_
  refine m_putI S hK hM hS 96 (Nat.le_of_ble_eq_true rfl) rfl q1828 rfl (ty := .int) rfl rfl rfl dX6_qSums_80 (fun H locs hM hS => ?_)
  exact m_vret S hr hlk hM hS h dX6_qSums_83
set_option maxHeartbeats 4000000 in
theorem wX6_qSums_53 {p : Program} {l : Launch} {e : Env} {s : State} {m : MethodId} {args : Array Value} {below : List Frame} {meth : Method} {c : Code} {G : mG} {b : Nat} (S : CallFix p m c cX6_qSums 3 s args lw_all RX6) (hr : meth.sig.returnType = none) (hlk : meth.locks = false) (hK : mK G s) {x : MS} : ∀ (n : Nat) (σ : MS) (a1 : Int32), fX6_qSums_53 n σ a1 = some x → mGo p l e rmX6_qSums s m args below meth c G b (MQ below (mQv G b x) args s 0 0 (mB b)) 3 53 [(0, .ref b), (1, .int a1)] [] σ := by
  obtain ⟨hx, hb, hml, hown, hts⟩ := id S
  intro n
  induction n with
  | zero => intro σ a1 h; cases h
  | succ n ih =>
    intro σ a1 h H locs hM hS ls hl
    rw [fX6_qSums_53] at h
    refine lv_aload_n hx hb dX6_qSums_53 rfl (lv_at hl 0 rfl) ?_
    refine m_get S hK hM 5 (Nat.le_of_ble_eq_true rfl) q1737 (v := .int (σ.1 5)) rfl dX6_qSums_54 ?_
    refine lv_if_ne (tgt := 78) hx hb dX6_qSums_57 (by decide) (fun c1 => ?_) (fun c1 => ?_)
    · replace h := ie c1 h
      exact wX6_qSums_78 S hr hlk hK σ a1 h _ _ hM hS _ (lv_sub hl [0, 1] rfl)
    replace h := it c1 h
    refine lv_aload_n hx hb dX6_qSums_60 rfl (lv_at hl 0 rfl) ?_
    refine m_get S hK hM 94 (Nat.le_of_ble_eq_true rfl) q1826 (v := .int (σ.1 94)) rfl dX6_qSums_61 ?_
    refine lv_aload_n hx hb dX6_qSums_64 rfl (lv_at hl 0 rfl) ?_
    refine m_get S hK hM 96 (Nat.le_of_ble_eq_true rfl) q1828 (v := .int (σ.1 96)) rfl dX6_qSums_65 ?_
    refine lv_icmp_le (tgt := 78) hx hb dX6_qSums_68 (by decide) (fun c2 => ?_) (fun c2 => ?_)
    · replace h := it c2 h
      exact wX6_qSums_78 S hr hlk hK σ a1 h _ _ hM hS _ (lv_sub hl [0, 1] rfl)
    replace h := ie c2 h
    refine lv_aload_n hx hb dX6_qSums_71 rfl (lv_at hl 0 rfl) ?_
    replace h := ob h
    obtain ⟨x3, hx3, h⟩ := h
    refine kX6_qDrops S hK hM hS hx3 ⟨Nat.le_of_ble_eq_true rfl, Nat.le_of_ble_eq_true rfl⟩ hl.1 (Nat.le_of_ble_eq_true rfl) dX6_qSums_72 (fun H locs hM hS => ?_)
    refine lv_goto (tgt := 53) hx hb dX6_qSums_75 (by decide) ?_
    exact ih x3 a1 h _ _ hM hS _ (lv_sub hl [0, 1] rfl)
set_option maxHeartbeats 4000000 in
theorem wX6_qSums_15 {p : Program} {l : Launch} {e : Env} {s : State} {m : MethodId} {args : Array Value} {below : List Frame} {meth : Method} {c : Code} {G : mG} {b : Nat} (S : CallFix p m c cX6_qSums 3 s args lw_all RX6) (hr : meth.sig.returnType = none) (hlk : meth.locks = false) (hK : mK G s) {x : MS} : ∀ (n : Nat) (σ : MS) (a1 : Int32) (a2 : Int32), fX6_qSums_15 n σ a1 a2 = some x → mGo p l e rmX6_qSums s m args below meth c G b (MQ below (mQv G b x) args s 0 0 (mB b)) 3 15 [(0, .ref b), (1, .int a1), (2, .int a2)] [] σ := by
  obtain ⟨hx, hb, hml, hown, hts⟩ := id S
  intro n
  induction n with
  | zero => intro σ a1 a2 h; cases h
  | succ n ih =>
    intro σ a1 a2 h H locs hM hS ls hl
    rw [fX6_qSums_15] at h
    refine lv_iload_n hx hb dX6_qSums_15 rfl (lv_at hl 2 rfl) ?_
    refine lv_if_eq (tgt := 53) hx hb dX6_qSums_16 (by decide) (fun c1 => ?_) (fun c1 => ?_)
    · replace h := it c1 h
      exact wX6_qSums_53 S hr hlk hK FU σ a1 h _ _ hM hS _ (lv_sub hl [0, 1] rfl)
    replace h := ie c1 h
    refine lv_aload_n hx hb dX6_qSums_19 rfl (lv_at hl 0 rfl) ?_
    refine m_get S hK hM 5 (Nat.le_of_ble_eq_true rfl) q1737 (v := .int (σ.1 5)) rfl dX6_qSums_20 ?_
    refine lv_if_ne (tgt := 53) hx hb dX6_qSums_23 (by decide) (fun c2 => ?_) (fun c2 => ?_)
    · replace h := ie c2 h
      exact wX6_qSums_53 S hr hlk hK FU σ a1 h _ _ hM hS _ (lv_sub hl [0, 1] rfl)
    replace h := it c2 h
    refine lv_aload_n hx hb dX6_qSums_26 rfl (lv_at hl 0 rfl) ?_
    replace h := ob h
    obtain ⟨x3, hx3, h⟩ := h
    refine kX6_qPartTold S hK hM hS hx3 ⟨Nat.le_of_ble_eq_true rfl, Nat.le_of_ble_eq_true rfl⟩ hl.1 (Nat.le_of_ble_eq_true rfl) dX6_qSums_27 (fun H locs hM hS => ?_)
    refine lv_aload_n hx hb dX6_qSums_30 rfl (lv_at hl 0 rfl) ?_
    refine m_get S hK hM 5 (Nat.le_of_ble_eq_true rfl) q1737 (v := .int (x3.1 5)) rfl dX6_qSums_31 ?_
    refine lv_if_ne (tgt := 48) hx hb dX6_qSums_34 (by decide) (fun c4 => ?_) (fun c4 => ?_)
    · replace h := ie c4 h
      exact wX6_qSums_48 S hr hlk hK ih x3 a1 h _ _ hM hS _ (lv_sub hl [0, 1] rfl)
    replace h := it c4 h
    refine lv_aload_n hx hb dX6_qSums_37 rfl (lv_at hl 0 rfl) ?_
    replace h := ob h
    obtain ⟨x5, hx5, h⟩ := h
    refine kX6_qGoesOn S hK hM hS hx5 ⟨Nat.le_of_ble_eq_true rfl, Nat.le_of_ble_eq_true rfl⟩ hl.1 (Nat.le_of_ble_eq_true rfl) dX6_qSums_38 (fun H locs hM hS => ?_)
    refine lv_if_eq (tgt := 48) hx hb dX6_qSums_41 (by decide) (fun c6 => ?_) (fun c6 => ?_)
    · replace h := it c6 h
      exact wX6_qSums_48 S hr hlk hK ih x5.1 a1 h _ _ hM hS _ (lv_sub hl [0, 1] rfl)
    replace h := ie c6 h
    refine lv_iconst (v := (1 : Int32)) hx hb dX6_qSums_44 (by decide) ?_
    refine lv_goto (tgt := 49) hx hb dX6_qSums_45 (by decide) ?_
    exact wX6_qSums_49 S hr hlk hK ih x5.1 a1 (1 : Int32) h _ _ hM hS _ (lv_sub hl [0, 1] rfl)
set_option maxHeartbeats 4000000 in
theorem metX6_qSums {l : Launch} {G : mG} {b : Nat} {σ : MS} {x : MS} (h : fX6_qSums σ = some x) : Met l yX6_qSums (ws_ yX6_qSums cX6_qSums 3 (none)) rmX6_qSums (mP G b σ [.ref b]) (mQv G b x) 0 0 (mB b) := by
  refine m_entry (by decide) rfl (Nat.le_of_ble_eq_true rfl) ?_
  intro p e s m below meth c S hr hlk hK hM hS ls hl
  replace hl : lv_has ls 3 [(0, .ref b)] := hl
  obtain ⟨hx, hb, hml, hown, hts⟩ := id S
  unfold fX6_qSums at h
  refine lv_aload_n hx hb dX6_qSums_0 rfl (lv_at hl 0 rfl) ?_
  refine m_get S hK hM 96 (Nat.le_of_ble_eq_true rfl) q1828 (v := .int (σ.1 96)) rfl dX6_qSums_1 ?_
  refine lv_istore_n (lv' := [(1, .int (σ.1 96)), (0, .ref b)]) hx hb dX6_qSums_4 rfl hl (by decide) rfl (fun ls hl => ?_)
  refine lv_aload_n hx hb dX6_qSums_5 rfl (lv_at hl 1 rfl) ?_
  refine lv_aload_n hx hb dX6_qSums_6 rfl (lv_at hl 1 rfl) ?_
  refine m_get S hK hM 94 (Nat.le_of_ble_eq_true rfl) q1826 (v := .int (σ.1 94)) rfl dX6_qSums_7 ?_
  refine m_putI S hK hM hS 96 (Nat.le_of_ble_eq_true rfl) rfl q1828 rfl (ty := .int) rfl rfl rfl dX6_qSums_10 (fun H locs hM hS => ?_)
  refine lv_iconst (v := (1 : Int32)) hx hb dX6_qSums_13 (by decide) ?_
  refine lv_istore_n (lv' := [(2, .int (1 : Int32)), (1, .int (σ.1 96)), (0, .ref b)]) hx hb dX6_qSums_14 rfl hl (by decide) rfl (fun ls hl => ?_)
  exact wX6_qSums_15 S hr hlk hK FU (sI σ 96 (σ.1 94)) (σ.1 96) (1 : Int32) h _ _ hM hS _ (lv_sub hl [2, 1, 0] rfl)
theorem kX6_qSums {p : Program} {l : Launch} {e : Env} {R : Room} {s : State} {m : MethodId} {args : Array Value} {below : List Frame} {meth : Method} {c : Code} {H H0 : Heap} {locs : List Loc} {Q : State → Prop} {cc : ByteArray} {nL pc : Nat} {ls : Array Slot} {rest : List Value} {G : mG} {b : Nat} {σ : MS} {x : MS} (S : CallFix p m c cc nL s args lw_all RX6) (hK : mK G s) (hM : MW G b σ H) (hS : va_S (mB b) H0 H locs) (hf : fX6_qSums σ = some x) (hR : rmX6_qSums.frames + 1 ≤ R.frames ∧ 8 + (3 + 11) + rmX6_qSums.locals ≤ R.locals) (hsize : ls.size = nL) (hr : (rest.map fun v => v.category).sum ≤ 8) (hdg : decode cc pc = .ok (.invokevirtual 353, 3)) (kk : ∀ (H1 : Heap) (locs1 : List Loc), MW G b x H1 → va_S (mB b) H0 H1 locs1 → W p l e R s m args below meth c H1 locs1 0 0 Q (F0 m (pc + 3) ls (rest))) : W p l e R s m args below meth c H locs 0 0 Q (F0 m pc ls (.ref b :: rest)) :=
  m_cVv (As := []) S hK hM hS (metX6_qSums hf) (cwV 0 S.2.2.2.2 (lw_V q2161 q2163 qs89 q179 q2164) rfl rfl rfl (by decide +kernel) hR) ⟨Nat.zero_le _, Nat.zero_le _⟩ rfl hsize rfl hr hdg kk
/-! qDropsNots()V -/
abbrev rmX6_qDropsNots : Room := { frames := 3, cells := 0, slots := 0, locals := 41 }
def fX6_qDropsNots_0 : Nat → MS → Option (MS)
  | 0, _ => none
  | n + 1, σ =>
    if (σ.1 5) = 0 then
      (fX6_qIsOn σ (12 : Int32)).bind fun x2 =>
      if x2 = 0 then
        some σ
      else
      (fX6_qDrops (sI σ 95 ((σ.1 95) - (1 : Int32)))).bind fun x4 =>
      fX6_qDropsNots_0 n x4
    else
    some σ
def fX6_qDropsNots (σ : MS) : Option (MS) :=
  fX6_qDropsNots_0 FU σ
set_option maxHeartbeats 4000000 in
theorem wX6_qDropsNots_0 {p : Program} {l : Launch} {e : Env} {s : State} {m : MethodId} {args : Array Value} {below : List Frame} {meth : Method} {c : Code} {G : mG} {b : Nat} (S : CallFix p m c cX6_qDropsNots 1 s args lw_all RX6) (hr : meth.sig.returnType = none) (hlk : meth.locks = false) (hK : mK G s) {x : MS} : ∀ (n : Nat) (σ : MS), fX6_qDropsNots_0 n σ = some x → mGo p l e rmX6_qDropsNots s m args below meth c G b (MQ below (mQv G b x) args s 0 0 (mB b)) 1 0 [(0, .ref b)] [] σ := by
  obtain ⟨hx, hb, hml, hown, hts⟩ := id S
  intro n
  induction n with
  | zero => intro σ h; cases h
  | succ n ih =>
    intro σ h H locs hM hS ls hl
    rw [fX6_qDropsNots_0] at h
    refine lv_aload_n hx hb dX6_qDropsNots_0 rfl (lv_at hl 0 rfl) ?_
    refine m_get S hK hM 5 (Nat.le_of_ble_eq_true rfl) q1737 (v := .int (σ.1 5)) rfl dX6_qDropsNots_1 ?_
    refine lv_if_ne (tgt := 33) hx hb dX6_qDropsNots_4 (by decide) (fun c1 => ?_) (fun c1 => ?_)
    · replace h := ie c1 h
      exact m_vret S hr hlk hM hS h dX6_qDropsNots_33
    replace h := it c1 h
    refine lv_aload_n hx hb dX6_qDropsNots_7 rfl (lv_at hl 0 rfl) ?_
    refine lv_bipush (v := (12 : Int32)) hx hb dX6_qDropsNots_8 (by decide) ?_
    replace h := ob h
    obtain ⟨x2, hx2, h⟩ := h
    refine kX6_qIsOn S hK hM hS hx2 ⟨Nat.le_of_ble_eq_true rfl, Nat.le_of_ble_eq_true rfl⟩ hl.1 (Nat.le_of_ble_eq_true rfl) dX6_qDropsNots_10 (fun H locs hM hS => ?_)
    refine lv_if_eq (tgt := 33) hx hb dX6_qDropsNots_13 (by decide) (fun c3 => ?_) (fun c3 => ?_)
    · replace h := it c3 h
      exact m_vret S hr hlk hM hS h dX6_qDropsNots_33
    replace h := ie c3 h
    refine lv_aload_n hx hb dX6_qDropsNots_16 rfl (lv_at hl 0 rfl) ?_
    refine lv_dup hx hb dX6_qDropsNots_17 rfl ?_
    refine m_get S hK hM 95 (Nat.le_of_ble_eq_true rfl) q1827 (v := .int (σ.1 95)) rfl dX6_qDropsNots_18 ?_
    refine lv_iconst (v := (1 : Int32)) hx hb dX6_qDropsNots_21 (by decide) ?_
    refine lv_isub hx hb dX6_qDropsNots_22 ?_
    refine m_putI S hK hM hS 95 (Nat.le_of_ble_eq_true rfl) rfl q1827 rfl (ty := .int) rfl rfl rfl dX6_qDropsNots_23 (fun H locs hM hS => ?_)
    refine lv_aload_n hx hb dX6_qDropsNots_26 rfl (lv_at hl 0 rfl) ?_
    replace h := ob h
    obtain ⟨x4, hx4, h⟩ := h
    refine kX6_qDrops S hK hM hS hx4 ⟨Nat.le_of_ble_eq_true rfl, Nat.le_of_ble_eq_true rfl⟩ hl.1 (Nat.le_of_ble_eq_true rfl) dX6_qDropsNots_27 (fun H locs hM hS => ?_)
    refine lv_goto (tgt := 0) hx hb dX6_qDropsNots_30 (by decide) ?_
    exact ih x4 h _ _ hM hS _ (lv_sub hl [0] rfl)
set_option maxHeartbeats 4000000 in
theorem metX6_qDropsNots {l : Launch} {G : mG} {b : Nat} {σ : MS} {x : MS} (h : fX6_qDropsNots σ = some x) : Met l yX6_qDropsNots (ws_ yX6_qDropsNots cX6_qDropsNots 1 (none)) rmX6_qDropsNots (mP G b σ [.ref b]) (mQv G b x) 0 0 (mB b) := by
  refine m_entry (by decide) rfl (Nat.le_of_ble_eq_true rfl) ?_
  intro p e s m below meth c S hr hlk hK hM hS ls hl
  replace hl : lv_has ls 1 [(0, .ref b)] := hl
  obtain ⟨hx, hb, hml, hown, hts⟩ := id S
  unfold fX6_qDropsNots at h
  exact wX6_qDropsNots_0 S hr hlk hK FU σ h _ _ hM hS _ (lv_sub hl [0] rfl)
theorem kX6_qDropsNots {p : Program} {l : Launch} {e : Env} {R : Room} {s : State} {m : MethodId} {args : Array Value} {below : List Frame} {meth : Method} {c : Code} {H H0 : Heap} {locs : List Loc} {Q : State → Prop} {cc : ByteArray} {nL pc : Nat} {ls : Array Slot} {rest : List Value} {G : mG} {b : Nat} {σ : MS} {x : MS} (S : CallFix p m c cc nL s args lw_all RX6) (hK : mK G s) (hM : MW G b σ H) (hS : va_S (mB b) H0 H locs) (hf : fX6_qDropsNots σ = some x) (hR : rmX6_qDropsNots.frames + 1 ≤ R.frames ∧ 8 + (1 + 11) + rmX6_qDropsNots.locals ≤ R.locals) (hsize : ls.size = nL) (hr : (rest.map fun v => v.category).sum ≤ 8) (hdg : decode cc pc = .ok (.invokevirtual 640, 3)) (kk : ∀ (H1 : Heap) (locs1 : List Loc), MW G b x H1 → va_S (mB b) H0 H1 locs1 → W p l e R s m args below meth c H1 locs1 0 0 Q (F0 m (pc + 3) ls (rest))) : W p l e R s m args below meth c H locs 0 0 Q (F0 m pc ls (.ref b :: rest)) :=
  m_cVv (As := []) S hK hM hS (metX6_qDropsNots hf) (cwV 0 S.2.2.2.2 (lw_V q2222 q2224 qs103 q179 q2225) rfl rfl rfl (by decide +kernel) hR) ⟨Nat.zero_le _, Nat.zero_le _⟩ rfl hsize rfl hr hdg kk
/-! qFact()V -/
abbrev rmX6_qFact : Room := { frames := 8, cells := 0, slots := 0, locals := 153 }
def fX6_qFact_102 (σ : MS) (t1 : Int32) : Option (MS) :=
  (fX6_qCode σ t1).bind fun x1 =>
  some x1
def fX6_qFact_63 (σ : MS) (a1 : Int32) : Option (MS) :=
  (fX6_qSums (sI σ 2 ((σ.1 2) + (1 : Int32)))).bind fun x1 =>
  if a1 = (60 : Int32) then
    fX6_qFact_102 x1 (7 : Int32)
  else
  if a1 = (62 : Int32) then
    fX6_qFact_102 x1 (8 : Int32)
  else
  fX6_qFact_102 x1 (9 : Int32)
def fX6_qFact (σ : MS) : Option (MS) :=
  (fX6_takes σ 80).bind fun x1 =>
  if x1.2 = 0 then
    (fX6_qSums x1.1).bind fun x3 =>
    if (x3.1 5) = 0 then
      (fX6_look x3).bind fun x5 =>
      if x5.2 = (60 : Int32) then
        fX6_qFact_63 x5.1 x5.2
      else
      if x5.2 = (62 : Int32) then
        fX6_qFact_63 x5.1 x5.2
      else
      if x5.2 = (61 : Int32) then
        fX6_qFact_63 x5.1 x5.2
      else
      (fX6_fail x5.1 (1 : Int32) (x5.1.1 2)).bind fun x9 =>
      some x9
    else
    some x3
  else
  (fX6_qCode x1.1 (13 : Int32)).bind fun x10 =>
  some x10
set_option maxHeartbeats 4000000 in
theorem wX6_qFact_102 {p : Program} {l : Launch} {e : Env} {s : State} {m : MethodId} {args : Array Value} {below : List Frame} {meth : Method} {c : Code} {G : mG} {b : Nat} (S : CallFix p m c cX6_qFact 2 s args lw_all RX6) (hr : meth.sig.returnType = none) (hlk : meth.locks = false) (hK : mK G s) {x : MS} : ∀ (σ : MS) (t1 : Int32), fX6_qFact_102 σ t1 = some x → mGo p l e rmX6_qFact s m args below meth c G b (MQ below (mQv G b x) args s 0 0 (mB b)) 2 102 [(0, .ref b)] [.int t1, .ref b] σ := by
  obtain ⟨hx, hb, hml, hown, hts⟩ := id S
  intro σ t1 h H locs hM hS ls hl
  unfold fX6_qFact_102 at h
  replace h := ob h
  obtain ⟨x1, hx1, h⟩ := h
  refine kX6_qCode S hK hM hS hx1 ⟨Nat.le_of_ble_eq_true rfl, Nat.le_of_ble_eq_true rfl⟩ hl.1 (Nat.le_of_ble_eq_true rfl) dX6_qFact_102 (fun H locs hM hS => ?_)
  exact m_vret S hr hlk hM hS h dX6_qFact_105
set_option maxHeartbeats 4000000 in
theorem wX6_qFact_63 {p : Program} {l : Launch} {e : Env} {s : State} {m : MethodId} {args : Array Value} {below : List Frame} {meth : Method} {c : Code} {G : mG} {b : Nat} (S : CallFix p m c cX6_qFact 2 s args lw_all RX6) (hr : meth.sig.returnType = none) (hlk : meth.locks = false) (hK : mK G s) {x : MS} : ∀ (σ : MS) (a1 : Int32), fX6_qFact_63 σ a1 = some x → mGo p l e rmX6_qFact s m args below meth c G b (MQ below (mQv G b x) args s 0 0 (mB b)) 2 63 [(0, .ref b), (1, .int a1)] [] σ := by
  obtain ⟨hx, hb, hml, hown, hts⟩ := id S
  intro σ a1 h H locs hM hS ls hl
  unfold fX6_qFact_63 at h
  refine lv_aload_n hx hb dX6_qFact_63 rfl (lv_at hl 0 rfl) ?_
  refine lv_dup hx hb dX6_qFact_64 rfl ?_
  refine m_get S hK hM 2 (Nat.le_of_ble_eq_true rfl) q1734 (v := .int (σ.1 2)) rfl dX6_qFact_65 ?_
  refine lv_iconst (v := (1 : Int32)) hx hb dX6_qFact_68 (by decide) ?_
  refine lv_iadd hx hb dX6_qFact_69 ?_
  refine m_putI S hK hM hS 2 (Nat.le_of_ble_eq_true rfl) rfl q1734 rfl (ty := .int) rfl rfl rfl dX6_qFact_70 (fun H locs hM hS => ?_)
  refine lv_aload_n hx hb dX6_qFact_73 rfl (lv_at hl 0 rfl) ?_
  replace h := ob h
  obtain ⟨x1, hx1, h⟩ := h
  refine kX6_qSums S hK hM hS hx1 ⟨Nat.le_of_ble_eq_true rfl, Nat.le_of_ble_eq_true rfl⟩ hl.1 (Nat.le_of_ble_eq_true rfl) dX6_qFact_74 (fun H locs hM hS => ?_)
  refine lv_aload_n hx hb dX6_qFact_77 rfl (lv_at hl 0 rfl) ?_
  refine lv_iload_n hx hb dX6_qFact_78 rfl (lv_at hl 1 rfl) ?_
  refine lv_bipush (v := (60 : Int32)) hx hb dX6_qFact_79 (by decide) ?_
  refine lv_icmp_ne (tgt := 89) hx hb dX6_qFact_81 (by decide) (fun c2 => ?_) (fun c2 => ?_)
  rotate_left 1
  · replace h := it c2 h
    refine lv_bipush (v := (7 : Int32)) hx hb dX6_qFact_84 (by decide) ?_
    refine lv_goto (tgt := 102) hx hb dX6_qFact_86 (by decide) ?_
    exact wX6_qFact_102 S hr hlk hK x1 (7 : Int32) h _ _ hM hS _ (lv_sub hl [0] rfl)
  replace h := ie c2 h
  refine lv_iload_n hx hb dX6_qFact_89 rfl (lv_at hl 1 rfl) ?_
  refine lv_bipush (v := (62 : Int32)) hx hb dX6_qFact_90 (by decide) ?_
  refine lv_icmp_ne (tgt := 100) hx hb dX6_qFact_92 (by decide) (fun c3 => ?_) (fun c3 => ?_)
  · replace h := ie c3 h
    refine lv_bipush (v := (9 : Int32)) hx hb dX6_qFact_100 (by decide) ?_
    exact wX6_qFact_102 S hr hlk hK x1 (9 : Int32) h _ _ hM hS _ (lv_sub hl [0] rfl)
  replace h := it c3 h
  refine lv_bipush (v := (8 : Int32)) hx hb dX6_qFact_95 (by decide) ?_
  refine lv_goto (tgt := 102) hx hb dX6_qFact_97 (by decide) ?_
  exact wX6_qFact_102 S hr hlk hK x1 (8 : Int32) h _ _ hM hS _ (lv_sub hl [0] rfl)
set_option maxHeartbeats 4000000 in
theorem metX6_qFact {l : Launch} {G : mG} {b : Nat} {σ : MS} {x : MS} (h : fX6_qFact σ = some x) : Met l yX6_qFact (ws_ yX6_qFact cX6_qFact 2 (none)) rmX6_qFact (mP G b σ [.ref b]) (mQv G b x) 0 0 (mB b) := by
  refine m_entry (by decide) rfl (Nat.le_of_ble_eq_true rfl) ?_
  intro p e s m below meth c S hr hlk hK hM hS ls hl
  replace hl : lv_has ls 2 [(0, .ref b)] := hl
  obtain ⟨hx, hb, hml, hown, hts⟩ := id S
  unfold fX6_qFact at h
  refine lv_aload_n hx hb dX6_qFact_0 rfl (lv_at hl 0 rfl) ?_
  refine lv_aload_n hx hb dX6_qFact_1 rfl (lv_at hl 0 rfl) ?_
  refine m_get S hK hM 80 (Nat.le_of_ble_eq_true rfl) q1812 (v := .ref (ma b 80)) rfl dX6_qFact_2 ?_
  replace h := ob h
  obtain ⟨x1, hx1, h⟩ := h
  refine kX6_takes S hK hM hS hx1 ⟨Nat.le_of_ble_eq_true rfl, Nat.le_of_ble_eq_true rfl⟩ hl.1 (Nat.le_of_ble_eq_true rfl) dX6_qFact_5 (fun H locs hM hS => ?_)
  refine lv_if_eq (tgt := 18) hx hb dX6_qFact_8 (by decide) (fun c2 => ?_) (fun c2 => ?_)
  rotate_left 1
  · replace h := ie c2 h
    refine lv_aload_n hx hb dX6_qFact_11 rfl (lv_at hl 0 rfl) ?_
    refine lv_bipush (v := (13 : Int32)) hx hb dX6_qFact_12 (by decide) ?_
    replace h := ob h
    obtain ⟨x10, hx10, h⟩ := h
    refine kX6_qCode S hK hM hS hx10 ⟨Nat.le_of_ble_eq_true rfl, Nat.le_of_ble_eq_true rfl⟩ hl.1 (Nat.le_of_ble_eq_true rfl) dX6_qFact_14 (fun H locs hM hS => ?_)
    exact m_vret S hr hlk hM hS h dX6_qFact_17
  replace h := it c2 h
  refine lv_aload_n hx hb dX6_qFact_18 rfl (lv_at hl 0 rfl) ?_
  replace h := ob h
  obtain ⟨x3, hx3, h⟩ := h
  refine kX6_qSums S hK hM hS hx3 ⟨Nat.le_of_ble_eq_true rfl, Nat.le_of_ble_eq_true rfl⟩ hl.1 (Nat.le_of_ble_eq_true rfl) dX6_qFact_19 (fun H locs hM hS => ?_)
  refine lv_aload_n hx hb dX6_qFact_22 rfl (lv_at hl 0 rfl) ?_
  refine m_get S hK hM 5 (Nat.le_of_ble_eq_true rfl) q1737 (v := .int (x3.1 5)) rfl dX6_qFact_23 ?_
  refine lv_if_eq (tgt := 30) hx hb dX6_qFact_26 (by decide) (fun c4 => ?_) (fun c4 => ?_)
  rotate_left 1
  · replace h := ie c4 h
    exact m_vret S hr hlk hM hS h dX6_qFact_29
  replace h := it c4 h
  refine lv_aload_n hx hb dX6_qFact_30 rfl (lv_at hl 0 rfl) ?_
  replace h := ob h
  obtain ⟨x5, hx5, h⟩ := h
  refine kX6_look S hK hM hS hx5 ⟨Nat.le_of_ble_eq_true rfl, Nat.le_of_ble_eq_true rfl⟩ hl.1 (Nat.le_of_ble_eq_true rfl) dX6_qFact_31 (fun H locs hM hS => ?_)
  refine lv_istore_n (lv' := [(1, .int x5.2), (0, .ref b)]) hx hb dX6_qFact_34 rfl hl (by decide) rfl (fun ls hl => ?_)
  refine lv_iload_n hx hb dX6_qFact_35 rfl (lv_at hl 0 rfl) ?_
  refine lv_bipush (v := (60 : Int32)) hx hb dX6_qFact_36 (by decide) ?_
  refine lv_icmp_eq (tgt := 63) hx hb dX6_qFact_38 (by decide) (fun c6 => ?_) (fun c6 => ?_)
  · replace h := it c6 h
    exact wX6_qFact_63 S hr hlk hK x5.1 x5.2 h _ _ hM hS _ (lv_sub hl [1, 0] rfl)
  replace h := ie c6 h
  refine lv_iload_n hx hb dX6_qFact_41 rfl (lv_at hl 0 rfl) ?_
  refine lv_bipush (v := (62 : Int32)) hx hb dX6_qFact_42 (by decide) ?_
  refine lv_icmp_eq (tgt := 63) hx hb dX6_qFact_44 (by decide) (fun c7 => ?_) (fun c7 => ?_)
  · replace h := it c7 h
    exact wX6_qFact_63 S hr hlk hK x5.1 x5.2 h _ _ hM hS _ (lv_sub hl [1, 0] rfl)
  replace h := ie c7 h
  refine lv_iload_n hx hb dX6_qFact_47 rfl (lv_at hl 0 rfl) ?_
  refine lv_bipush (v := (61 : Int32)) hx hb dX6_qFact_48 (by decide) ?_
  refine lv_icmp_eq (tgt := 63) hx hb dX6_qFact_50 (by decide) (fun c8 => ?_) (fun c8 => ?_)
  · replace h := it c8 h
    exact wX6_qFact_63 S hr hlk hK x5.1 x5.2 h _ _ hM hS _ (lv_sub hl [1, 0] rfl)
  replace h := ie c8 h
  refine lv_aload_n hx hb dX6_qFact_53 rfl (lv_at hl 1 rfl) ?_
  refine lv_iconst (v := (1 : Int32)) hx hb dX6_qFact_54 (by decide) ?_
  refine lv_aload_n hx hb dX6_qFact_55 rfl (lv_at hl 1 rfl) ?_
  refine m_get S hK hM 2 (Nat.le_of_ble_eq_true rfl) q1734 (v := .int (x5.1.1 2)) rfl dX6_qFact_56 ?_
  replace h := ob h
  obtain ⟨x9, hx9, h⟩ := h
  refine kX6_fail S hK hM hS hx9 ⟨Nat.le_of_ble_eq_true rfl, Nat.le_of_ble_eq_true rfl⟩ hl.1 (Nat.le_of_ble_eq_true rfl) dX6_qFact_59 (fun H locs hM hS => ?_)
  exact m_vret S hr hlk hM hS h dX6_qFact_62
theorem kX6_qFact {p : Program} {l : Launch} {e : Env} {R : Room} {s : State} {m : MethodId} {args : Array Value} {below : List Frame} {meth : Method} {c : Code} {H H0 : Heap} {locs : List Loc} {Q : State → Prop} {cc : ByteArray} {nL pc : Nat} {ls : Array Slot} {rest : List Value} {G : mG} {b : Nat} {σ : MS} {x : MS} (S : CallFix p m c cc nL s args lw_all RX6) (hK : mK G s) (hM : MW G b σ H) (hS : va_S (mB b) H0 H locs) (hf : fX6_qFact σ = some x) (hR : rmX6_qFact.frames + 1 ≤ R.frames ∧ 8 + (2 + 11) + rmX6_qFact.locals ≤ R.locals) (hsize : ls.size = nL) (hr : (rest.map fun v => v.category).sum ≤ 8) (hdg : decode cc pc = .ok (.invokevirtual 637, 3)) (kk : ∀ (H1 : Heap) (locs1 : List Loc), MW G b x H1 → va_S (mB b) H0 H1 locs1 → W p l e R s m args below meth c H1 locs1 0 0 Q (F0 m (pc + 3) ls (rest))) : W p l e R s m args below meth c H locs 0 0 Q (F0 m pc ls (.ref b :: rest)) :=
  m_cVv (As := []) S hK hM hS (metX6_qFact hf) (cwV 0 S.2.2.2.2 (lw_V q2153 q2155 qs87 q179 q2156) rfl rfl rfl (by decide +kernel) hR) ⟨Nat.zero_le _, Nat.zero_le _⟩ rfl hsize rfl hr hdg kk
/-! qHasSquare()Z -/
abbrev rmX6_qHasSquare : Room := { frames := 1, cells := 0, slots := 0, locals := 0 }
def fX6_qHasSquare_2 (σ : MS) : Nat → Int32 → Option (Int32)
  | 0, _ => none
  | n + 1, a1 =>
    if (σ.1 94) ≤ a1 then
      some (0 : Int32)
    else
    (aI σ 93 a1).bind fun v2 =>
    if v2 = (25 : Int32) then
      some (1 : Int32)
    else
    fX6_qHasSquare_2 σ n (a1 + (1 : Int32))
def fX6_qHasSquare (σ : MS) : Option (Int32) :=
  fX6_qHasSquare_2 σ FU (0 : Int32)
set_option maxHeartbeats 4000000 in
theorem wX6_qHasSquare_2 {p : Program} {l : Launch} {e : Env} {s : State} {m : MethodId} {args : Array Value} {below : List Frame} {meth : Method} {c : Code} {G : mG} {b : Nat} {σ : MS} (S : CallFix p m c cX6_qHasSquare 2 s args lw_all RX6) (hr : meth.sig.returnType = some .boolean) (hlk : meth.locks = false) (hK : mK G s) {x : Int32} : ∀ (n : Nat) (a1 : Int32), fX6_qHasSquare_2 σ n a1 = some x → mGo p l e rmX6_qHasSquare s m args below meth c G b (MQ below (mQi G b (σ, x)) args s 0 0 (mB b)) 2 2 [(0, .ref b), (1, .int a1)] [] σ := by
  obtain ⟨hx, hb, hml, hown, hts⟩ := id S
  intro n
  induction n with
  | zero => intro a1 h; cases h
  | succ n ih =>
    intro a1 h H locs hM hS ls hl
    rw [fX6_qHasSquare_2] at h
    refine lv_iload_n hx hb dX6_qHasSquare_2 rfl (lv_at hl 1 rfl) ?_
    refine lv_aload_n hx hb dX6_qHasSquare_3 rfl (lv_at hl 0 rfl) ?_
    refine m_get S hK hM 94 (Nat.le_of_ble_eq_true rfl) q1826 (v := .int (σ.1 94)) rfl dX6_qHasSquare_4 ?_
    refine lv_icmp_ge (tgt := 29) hx hb dX6_qHasSquare_7 (by decide) (fun c1 => ?_) (fun c1 => ?_)
    · replace h := it c1 h
      refine lv_iconst (v := (0 : Int32)) hx hb dX6_qHasSquare_29 (by decide) ?_
      exact m_iret' S hr hlk rfl hM hS h dX6_qHasSquare_30
    replace h := ie c1 h
    refine lv_aload_n hx hb dX6_qHasSquare_10 rfl (lv_at hl 0 rfl) ?_
    refine m_get S hK hM 93 (Nat.le_of_ble_eq_true rfl) q1825 (v := .ref (ma b 93)) rfl dX6_qHasSquare_11 ?_
    refine lv_iload_n hx hb dX6_qHasSquare_14 rfl (lv_at hl 1 rfl) ?_
    replace h := ob h
    obtain ⟨v2, hv2, h⟩ := h
    refine m_iald S hK hM 93 rfl hv2 dX6_qHasSquare_15 ?_
    refine lv_bipush (v := (25 : Int32)) hx hb dX6_qHasSquare_16 (by decide) ?_
    refine lv_icmp_ne (tgt := 23) hx hb dX6_qHasSquare_18 (by decide) (fun c3 => ?_) (fun c3 => ?_)
    rotate_left 1
    · replace h := it c3 h
      refine lv_iconst (v := (1 : Int32)) hx hb dX6_qHasSquare_21 (by decide) ?_
      exact m_iret' S hr hlk rfl hM hS h dX6_qHasSquare_22
    replace h := ie c3 h
    refine lv_iinc (v := (a1 + (1 : Int32))) (lv' := [(1, .int (a1 + (1 : Int32))), (0, .ref b)]) hx hb dX6_qHasSquare_23 hl (k := 1) rfl rfl (by decide) rfl (fun ls hl => ?_)
    refine lv_goto (tgt := 2) hx hb dX6_qHasSquare_26 (by decide) ?_
    exact ih (a1 + (1 : Int32)) h _ _ hM hS _ (lv_sub hl [1, 0] rfl)
set_option maxHeartbeats 4000000 in
theorem metX6_qHasSquare {l : Launch} {G : mG} {b : Nat} {σ : MS} {x : Int32} (h : fX6_qHasSquare σ = some x) : Met l yX6_qHasSquare (ws_ yX6_qHasSquare cX6_qHasSquare 2 (some .boolean)) rmX6_qHasSquare (mP G b σ [.ref b]) (mQi G b (σ, x)) 0 0 (mB b) := by
  refine m_entry (by decide) rfl (Nat.le_of_ble_eq_true rfl) ?_
  intro p e s m below meth c S hr hlk hK hM hS ls hl
  replace hl : lv_has ls 2 [(0, .ref b)] := hl
  obtain ⟨hx, hb, hml, hown, hts⟩ := id S
  unfold fX6_qHasSquare at h
  refine lv_iconst (v := (0 : Int32)) hx hb dX6_qHasSquare_0 (by decide) ?_
  refine lv_istore_n (lv' := [(1, .int (0 : Int32)), (0, .ref b)]) hx hb dX6_qHasSquare_1 rfl hl (by decide) rfl (fun ls hl => ?_)
  exact wX6_qHasSquare_2 S hr hlk hK FU (0 : Int32) h _ _ hM hS _ (lv_sub hl [1, 0] rfl)
theorem kX6_qHasSquare {p : Program} {l : Launch} {e : Env} {R : Room} {s : State} {m : MethodId} {args : Array Value} {below : List Frame} {meth : Method} {c : Code} {H H0 : Heap} {locs : List Loc} {Q : State → Prop} {cc : ByteArray} {nL pc : Nat} {ls : Array Slot} {rest : List Value} {G : mG} {b : Nat} {σ : MS} {x : Int32} (S : CallFix p m c cc nL s args lw_all RX6) (hK : mK G s) (hM : MW G b σ H) (hS : va_S (mB b) H0 H locs) (hf : fX6_qHasSquare σ = some x) (hR : rmX6_qHasSquare.frames + 1 ≤ R.frames ∧ 8 + (2 + 11) + rmX6_qHasSquare.locals ≤ R.locals) (hsize : ls.size = nL) (hr : (rest.map fun v => v.category).sum ≤ 8) (hdg : decode cc pc = .ok (.invokevirtual 646, 3)) (kk : ∀ (H1 : Heap) (locs1 : List Loc), MW G b σ H1 → va_S (mB b) H0 H1 locs1 → W p l e R s m args below meth c H1 locs1 0 0 Q (F0 m (pc + 3) ls (.int x :: rest))) : W p l e R s m args below meth c H locs 0 0 Q (F0 m pc ls (.ref b :: rest)) :=
  m_cVi (As := []) S hK hM hS (metX6_qHasSquare hf) (cwV 0 S.2.2.2.2 (lw_V q2230 q2232 qs105 q179 q2233) rfl rfl rfl (by decide +kernel) hR) ⟨Nat.zero_le _, Nat.zero_le _⟩ rfl hsize rfl hr hdg kk
/-! qGoesOnTest()Z -/
abbrev rmX6_qGoesOnTest : Room := { frames := 4, cells := 0, slots := 0, locals := 64 }
def fX6_qGoesOnTest_33 (k0 : MS → Option (MS × Int32)) : Nat → MS → Option (MS × Int32)
  | 0, _ => none
  | n + 1, σ =>
    (fX6_qIsOn σ (25 : Int32)).bind fun x1 =>
    if x1 = 0 then
      (fX6_qDrops σ).bind fun x4 =>
      fX6_qGoesOnTest_33 k0 n x4
    else
    (fX6_qDropsNots (sI (sI σ 94 ((σ.1 94) - (1 : Int32))) 95 (((sI σ 94 ((σ.1 94) - (1 : Int32))).1 95) - (1 : Int32)))).bind fun x3 =>
    k0 x3
def fX6_qGoesOnTest_87 : Nat → MS → Option (MS × Int32)
  | 0, _ => none
  | n + 1, σ =>
    (fX6_qIsOn σ (10 : Int32)).bind fun x1 =>
    if x1 = 0 then
      (tI σ 93 (σ.1 94) (10 : Int32)).bind fun σ3 =>
      some ((sI σ3 94 ((σ3.1 94) + (1 : Int32))), (1 : Int32))
    else
    (fX6_qDrops σ).bind fun x4 =>
    fX6_qGoesOnTest_87 n x4
def fX6_qGoesOnTest_155 (k137 : MS → Option (MS × Int32)) (σ : MS) : Option (MS × Int32) :=
  (fX6_qDrops σ).bind fun x1 =>
  k137 x1
def fX6_qGoesOnTest_137 : Nat → MS → Option (MS × Int32)
  | 0, _ => none
  | n + 1, σ =>
    (fX6_qIsOn σ (10 : Int32)).bind fun x1 =>
    if x1 = 0 then
      (fX6_qIsOn σ (11 : Int32)).bind fun x3 =>
      if x3 = 0 then
        (tI σ 93 (σ.1 94) (11 : Int32)).bind fun σ5 =>
        some ((sI σ5 94 ((σ5.1 94) + (1 : Int32))), (1 : Int32))
      else
      fX6_qGoesOnTest_155 (fun σ' => fX6_qGoesOnTest_137 n σ') σ
    else
    fX6_qGoesOnTest_155 (fun σ' => fX6_qGoesOnTest_137 n σ') σ
def fX6_qGoesOnTest_76 (σ : MS) : Option (MS × Int32) :=
  (fX6_takes σ 78).bind fun x1 =>
  if x1.2 = 0 then
    (fX6_takes x1.1 79).bind fun x3 =>
    if x3.2 = 0 then
      if (x3.1.1 5) = 0 then
        (fX6_qHasSquare x3.1).bind fun x6 =>
        if x6 = 0 then
          some (x3.1, (0 : Int32))
        else
        (fX6_fail x3.1 (1 : Int32) (x3.1.1 2)).bind fun x8 =>
        some (x8, (0 : Int32))
      else
      some (x3.1, (0 : Int32))
    else
    fX6_qGoesOnTest_137 FU x3.1
  else
  fX6_qGoesOnTest_87 FU x1.1
def fX6_qGoesOnTest_0 : Nat → MS → Option (MS × Int32)
  | 0, _ => none
  | n + 1, σ =>
    if (σ.1 5) = 0 then
      (fX6_look σ).bind fun x2 =>
      if x2.2 = (93 : Int32) then
        (fX6_qHasSquare x2.1).bind fun x4 =>
        if x4 = 0 then
          fX6_qGoesOnTest_76 x2.1
        else
        fX6_qGoesOnTest_33 (fun σ' => fX6_qGoesOnTest_0 n σ') FU (sI x2.1 2 ((x2.1.1 2) + (1 : Int32)))
      else
      fX6_qGoesOnTest_76 x2.1
    else
    fX6_qGoesOnTest_76 σ
def fX6_qGoesOnTest (σ : MS) : Option (MS × Int32) :=
  fX6_qGoesOnTest_0 FU σ
set_option maxHeartbeats 4000000 in
theorem wX6_qGoesOnTest_33 {p : Program} {l : Launch} {e : Env} {s : State} {m : MethodId} {args : Array Value} {below : List Frame} {meth : Method} {c : Code} {G : mG} {b : Nat} (S : CallFix p m c cX6_qGoesOnTest 1 s args lw_all RX6) (hr : meth.sig.returnType = some .boolean) (hlk : meth.locks = false) (hK : mK G s) {x : MS × Int32} {k0 : MS → Option (MS × Int32)} (hk0 : ∀ σ, k0 σ = some x → mGo p l e rmX6_qGoesOnTest s m args below meth c G b (MQ below (mQi G b x) args s 0 0 (mB b)) 1 0 [(0, .ref b)] [] σ) : ∀ (n : Nat) (σ : MS), fX6_qGoesOnTest_33 k0 n σ = some x → mGo p l e rmX6_qGoesOnTest s m args below meth c G b (MQ below (mQi G b x) args s 0 0 (mB b)) 1 33 [(0, .ref b)] [] σ := by
  obtain ⟨hx, hb, hml, hown, hts⟩ := id S
  intro n
  induction n with
  | zero => intro σ h; cases h
  | succ n ih =>
    intro σ h H locs hM hS ls hl
    rw [fX6_qGoesOnTest_33] at h
    refine lv_aload_n hx hb dX6_qGoesOnTest_33 rfl (lv_at hl 0 rfl) ?_
    refine lv_bipush (v := (25 : Int32)) hx hb dX6_qGoesOnTest_34 (by decide) ?_
    replace h := ob h
    obtain ⟨x1, hx1, h⟩ := h
    refine kX6_qIsOn S hK hM hS hx1 ⟨Nat.le_of_ble_eq_true rfl, Nat.le_of_ble_eq_true rfl⟩ hl.1 (Nat.le_of_ble_eq_true rfl) dX6_qGoesOnTest_36 (fun H locs hM hS => ?_)
    refine lv_if_ne (tgt := 49) hx hb dX6_qGoesOnTest_39 (by decide) (fun c2 => ?_) (fun c2 => ?_)
    rotate_left 1
    · replace h := it c2 h
      refine lv_aload_n hx hb dX6_qGoesOnTest_42 rfl (lv_at hl 0 rfl) ?_
      replace h := ob h
      obtain ⟨x4, hx4, h⟩ := h
      refine kX6_qDrops S hK hM hS hx4 ⟨Nat.le_of_ble_eq_true rfl, Nat.le_of_ble_eq_true rfl⟩ hl.1 (Nat.le_of_ble_eq_true rfl) dX6_qGoesOnTest_43 (fun H locs hM hS => ?_)
      refine lv_goto (tgt := 33) hx hb dX6_qGoesOnTest_46 (by decide) ?_
      exact ih x4 h _ _ hM hS _ (lv_sub hl [0] rfl)
    replace h := ie c2 h
    refine lv_aload_n hx hb dX6_qGoesOnTest_49 rfl (lv_at hl 0 rfl) ?_
    refine lv_dup hx hb dX6_qGoesOnTest_50 rfl ?_
    refine m_get S hK hM 94 (Nat.le_of_ble_eq_true rfl) q1826 (v := .int (σ.1 94)) rfl dX6_qGoesOnTest_51 ?_
    refine lv_iconst (v := (1 : Int32)) hx hb dX6_qGoesOnTest_54 (by decide) ?_
    refine lv_isub hx hb dX6_qGoesOnTest_55 ?_
    refine m_putI S hK hM hS 94 (Nat.le_of_ble_eq_true rfl) rfl q1826 rfl (ty := .int) rfl rfl rfl dX6_qGoesOnTest_56 (fun H locs hM hS => ?_)
    refine lv_aload_n hx hb dX6_qGoesOnTest_59 rfl (lv_at hl 0 rfl) ?_
    refine lv_dup hx hb dX6_qGoesOnTest_60 rfl ?_
    refine m_get S hK hM 95 (Nat.le_of_ble_eq_true rfl) q1827 (v := .int ((sI σ 94 ((σ.1 94) - (1 : Int32))).1 95)) rfl dX6_qGoesOnTest_61 ?_
    refine lv_iconst (v := (1 : Int32)) hx hb dX6_qGoesOnTest_64 (by decide) ?_
    refine lv_isub hx hb dX6_qGoesOnTest_65 ?_
    refine m_putI S hK hM hS 95 (Nat.le_of_ble_eq_true rfl) rfl q1827 rfl (ty := .int) rfl rfl rfl dX6_qGoesOnTest_66 (fun H locs hM hS => ?_)
    refine lv_aload_n hx hb dX6_qGoesOnTest_69 rfl (lv_at hl 0 rfl) ?_
    replace h := ob h
    obtain ⟨x3, hx3, h⟩ := h
    refine kX6_qDropsNots S hK hM hS hx3 ⟨Nat.le_of_ble_eq_true rfl, Nat.le_of_ble_eq_true rfl⟩ hl.1 (Nat.le_of_ble_eq_true rfl) dX6_qGoesOnTest_70 (fun H locs hM hS => ?_)
    refine lv_goto (tgt := 0) hx hb dX6_qGoesOnTest_73 (by decide) ?_
    exact hk0 x3 h _ _ hM hS _ (lv_sub hl [0] rfl)
set_option maxHeartbeats 4000000 in
theorem wX6_qGoesOnTest_87 {p : Program} {l : Launch} {e : Env} {s : State} {m : MethodId} {args : Array Value} {below : List Frame} {meth : Method} {c : Code} {G : mG} {b : Nat} (S : CallFix p m c cX6_qGoesOnTest 1 s args lw_all RX6) (hr : meth.sig.returnType = some .boolean) (hlk : meth.locks = false) (hK : mK G s) {x : MS × Int32} : ∀ (n : Nat) (σ : MS), fX6_qGoesOnTest_87 n σ = some x → mGo p l e rmX6_qGoesOnTest s m args below meth c G b (MQ below (mQi G b x) args s 0 0 (mB b)) 1 87 [(0, .ref b)] [] σ := by
  obtain ⟨hx, hb, hml, hown, hts⟩ := id S
  intro n
  induction n with
  | zero => intro σ h; cases h
  | succ n ih =>
    intro σ h H locs hM hS ls hl
    rw [fX6_qGoesOnTest_87] at h
    refine lv_aload_n hx hb dX6_qGoesOnTest_87 rfl (lv_at hl 0 rfl) ?_
    refine lv_bipush (v := (10 : Int32)) hx hb dX6_qGoesOnTest_88 (by decide) ?_
    replace h := ob h
    obtain ⟨x1, hx1, h⟩ := h
    refine kX6_qIsOn S hK hM hS hx1 ⟨Nat.le_of_ble_eq_true rfl, Nat.le_of_ble_eq_true rfl⟩ hl.1 (Nat.le_of_ble_eq_true rfl) dX6_qGoesOnTest_90 (fun H locs hM hS => ?_)
    refine lv_if_eq (tgt := 103) hx hb dX6_qGoesOnTest_93 (by decide) (fun c2 => ?_) (fun c2 => ?_)
    rotate_left 1
    · replace h := ie c2 h
      refine lv_aload_n hx hb dX6_qGoesOnTest_96 rfl (lv_at hl 0 rfl) ?_
      replace h := ob h
      obtain ⟨x4, hx4, h⟩ := h
      refine kX6_qDrops S hK hM hS hx4 ⟨Nat.le_of_ble_eq_true rfl, Nat.le_of_ble_eq_true rfl⟩ hl.1 (Nat.le_of_ble_eq_true rfl) dX6_qGoesOnTest_97 (fun H locs hM hS => ?_)
      refine lv_goto (tgt := 87) hx hb dX6_qGoesOnTest_100 (by decide) ?_
      exact ih x4 h _ _ hM hS _ (lv_sub hl [0] rfl)
    replace h := it c2 h
    refine lv_aload_n hx hb dX6_qGoesOnTest_103 rfl (lv_at hl 0 rfl) ?_
    refine m_get S hK hM 93 (Nat.le_of_ble_eq_true rfl) q1825 (v := .ref (ma b 93)) rfl dX6_qGoesOnTest_104 ?_
    refine lv_aload_n hx hb dX6_qGoesOnTest_107 rfl (lv_at hl 0 rfl) ?_
    refine m_get S hK hM 94 (Nat.le_of_ble_eq_true rfl) q1826 (v := .int (σ.1 94)) rfl dX6_qGoesOnTest_108 ?_
    refine lv_bipush (v := (10 : Int32)) hx hb dX6_qGoesOnTest_111 (by decide) ?_
    replace h := ob h
    obtain ⟨σ3, hσ3, h⟩ := h
    refine m_iast S hK hM hS 93 rfl hσ3 dX6_qGoesOnTest_113 (fun H locs hM hS => ?_)
    refine lv_aload_n hx hb dX6_qGoesOnTest_114 rfl (lv_at hl 0 rfl) ?_
    refine lv_dup hx hb dX6_qGoesOnTest_115 rfl ?_
    refine m_get S hK hM 94 (Nat.le_of_ble_eq_true rfl) q1826 (v := .int (σ3.1 94)) rfl dX6_qGoesOnTest_116 ?_
    refine lv_iconst (v := (1 : Int32)) hx hb dX6_qGoesOnTest_119 (by decide) ?_
    refine lv_iadd hx hb dX6_qGoesOnTest_120 ?_
    refine m_putI S hK hM hS 94 (Nat.le_of_ble_eq_true rfl) rfl q1826 rfl (ty := .int) rfl rfl rfl dX6_qGoesOnTest_121 (fun H locs hM hS => ?_)
    refine lv_iconst (v := (1 : Int32)) hx hb dX6_qGoesOnTest_124 (by decide) ?_
    exact m_iret S hr hlk rfl hM hS h dX6_qGoesOnTest_125
set_option maxHeartbeats 4000000 in
theorem wX6_qGoesOnTest_155 {p : Program} {l : Launch} {e : Env} {s : State} {m : MethodId} {args : Array Value} {below : List Frame} {meth : Method} {c : Code} {G : mG} {b : Nat} (S : CallFix p m c cX6_qGoesOnTest 1 s args lw_all RX6) (hr : meth.sig.returnType = some .boolean) (hlk : meth.locks = false) (hK : mK G s) {x : MS × Int32} {k137 : MS → Option (MS × Int32)} (hk137 : ∀ σ, k137 σ = some x → mGo p l e rmX6_qGoesOnTest s m args below meth c G b (MQ below (mQi G b x) args s 0 0 (mB b)) 1 137 [(0, .ref b)] [] σ) : ∀ (σ : MS), fX6_qGoesOnTest_155 k137 σ = some x → mGo p l e rmX6_qGoesOnTest s m args below meth c G b (MQ below (mQi G b x) args s 0 0 (mB b)) 1 155 [(0, .ref b)] [] σ := by
  obtain ⟨hx, hb, hml, hown, hts⟩ := id S
  intro σ h H locs hM hS ls hl
  unfold fX6_qGoesOnTest_155 at h
  refine lv_aload_n hx hb dX6_qGoesOnTest_155 rfl (lv_at hl 0 rfl) ?_
  replace h := ob h
  obtain ⟨x1, hx1, h⟩ := h
  refine kX6_qDrops S hK hM hS hx1 ⟨Nat.le_of_ble_eq_true rfl, Nat.le_of_ble_eq_true rfl⟩ hl.1 (Nat.le_of_ble_eq_true rfl) dX6_qGoesOnTest_156 (fun H locs hM hS => ?_)
  refine lv_goto (tgt := 137) hx hb dX6_qGoesOnTest_159 (by decide) ?_
  exact hk137 x1 h _ _ hM hS _ (lv_sub hl [0] rfl)
set_option maxHeartbeats 4000000 in
theorem wX6_qGoesOnTest_137 {p : Program} {l : Launch} {e : Env} {s : State} {m : MethodId} {args : Array Value} {below : List Frame} {meth : Method} {c : Code} {G : mG} {b : Nat} (S : CallFix p m c cX6_qGoesOnTest 1 s args lw_all RX6) (hr : meth.sig.returnType = some .boolean) (hlk : meth.locks = false) (hK : mK G s) {x : MS × Int32} : ∀ (n : Nat) (σ : MS), fX6_qGoesOnTest_137 n σ = some x → mGo p l e rmX6_qGoesOnTest s m args below meth c G b (MQ below (mQi G b x) args s 0 0 (mB b)) 1 137 [(0, .ref b)] [] σ := by
  obtain ⟨hx, hb, hml, hown, hts⟩ := id S
  intro n
  induction n with
  | zero => intro σ h; cases h
  | succ n ih =>
    intro σ h H locs hM hS ls hl
    rw [fX6_qGoesOnTest_137] at h
    refine lv_aload_n hx hb dX6_qGoesOnTest_137 rfl (lv_at hl 0 rfl) ?_
    refine lv_bipush (v := (10 : Int32)) hx hb dX6_qGoesOnTest_138 (by decide) ?_
    replace h := ob h
    obtain ⟨x1, hx1, h⟩ := h
    refine kX6_qIsOn S hK hM hS hx1 ⟨Nat.le_of_ble_eq_true rfl, Nat.le_of_ble_eq_true rfl⟩ hl.1 (Nat.le_of_ble_eq_true rfl) dX6_qGoesOnTest_140 (fun H locs hM hS => ?_)
    refine lv_if_ne (tgt := 155) hx hb dX6_qGoesOnTest_143 (by decide) (fun c2 => ?_) (fun c2 => ?_)
    · replace h := ie c2 h
      exact wX6_qGoesOnTest_155 S hr hlk hK ih σ h _ _ hM hS _ (lv_sub hl [0] rfl)
    replace h := it c2 h
    refine lv_aload_n hx hb dX6_qGoesOnTest_146 rfl (lv_at hl 0 rfl) ?_
    refine lv_bipush (v := (11 : Int32)) hx hb dX6_qGoesOnTest_147 (by decide) ?_
    replace h := ob h
    obtain ⟨x3, hx3, h⟩ := h
    refine kX6_qIsOn S hK hM hS hx3 ⟨Nat.le_of_ble_eq_true rfl, Nat.le_of_ble_eq_true rfl⟩ hl.1 (Nat.le_of_ble_eq_true rfl) dX6_qGoesOnTest_149 (fun H locs hM hS => ?_)
    refine lv_if_eq (tgt := 162) hx hb dX6_qGoesOnTest_152 (by decide) (fun c4 => ?_) (fun c4 => ?_)
    rotate_left 1
    · replace h := ie c4 h
      exact wX6_qGoesOnTest_155 S hr hlk hK ih σ h _ _ hM hS _ (lv_sub hl [0] rfl)
    replace h := it c4 h
    refine lv_aload_n hx hb dX6_qGoesOnTest_162 rfl (lv_at hl 0 rfl) ?_
    refine m_get S hK hM 93 (Nat.le_of_ble_eq_true rfl) q1825 (v := .ref (ma b 93)) rfl dX6_qGoesOnTest_163 ?_
    refine lv_aload_n hx hb dX6_qGoesOnTest_166 rfl (lv_at hl 0 rfl) ?_
    refine m_get S hK hM 94 (Nat.le_of_ble_eq_true rfl) q1826 (v := .int (σ.1 94)) rfl dX6_qGoesOnTest_167 ?_
    refine lv_bipush (v := (11 : Int32)) hx hb dX6_qGoesOnTest_170 (by decide) ?_
    replace h := ob h
    obtain ⟨σ5, hσ5, h⟩ := h
    refine m_iast S hK hM hS 93 rfl hσ5 dX6_qGoesOnTest_172 (fun H locs hM hS => ?_)
    refine lv_aload_n hx hb dX6_qGoesOnTest_173 rfl (lv_at hl 0 rfl) ?_
    refine lv_dup hx hb dX6_qGoesOnTest_174 rfl ?_
    refine m_get S hK hM 94 (Nat.le_of_ble_eq_true rfl) q1826 (v := .int (σ5.1 94)) rfl dX6_qGoesOnTest_175 ?_
    refine lv_iconst (v := (1 : Int32)) hx hb dX6_qGoesOnTest_178 (by decide) ?_
    refine lv_iadd hx hb dX6_qGoesOnTest_179 ?_
    refine m_putI S hK hM hS 94 (Nat.le_of_ble_eq_true rfl) rfl q1826 rfl (ty := .int) rfl rfl rfl dX6_qGoesOnTest_180 (fun H locs hM hS => ?_)
    refine lv_iconst (v := (1 : Int32)) hx hb dX6_qGoesOnTest_183 (by decide) ?_
    exact m_iret S hr hlk rfl hM hS h dX6_qGoesOnTest_184
set_option maxHeartbeats 4000000 in
theorem wX6_qGoesOnTest_76 {p : Program} {l : Launch} {e : Env} {s : State} {m : MethodId} {args : Array Value} {below : List Frame} {meth : Method} {c : Code} {G : mG} {b : Nat} (S : CallFix p m c cX6_qGoesOnTest 1 s args lw_all RX6) (hr : meth.sig.returnType = some .boolean) (hlk : meth.locks = false) (hK : mK G s) {x : MS × Int32} : ∀ (σ : MS), fX6_qGoesOnTest_76 σ = some x → mGo p l e rmX6_qGoesOnTest s m args below meth c G b (MQ below (mQi G b x) args s 0 0 (mB b)) 1 76 [(0, .ref b)] [] σ := by
  obtain ⟨hx, hb, hml, hown, hts⟩ := id S
  intro σ h H locs hM hS ls hl
  unfold fX6_qGoesOnTest_76 at h
  refine lv_aload_n hx hb dX6_qGoesOnTest_76 rfl (lv_at hl 0 rfl) ?_
  refine lv_aload_n hx hb dX6_qGoesOnTest_77 rfl (lv_at hl 0 rfl) ?_
  refine m_get S hK hM 78 (Nat.le_of_ble_eq_true rfl) q1810 (v := .ref (ma b 78)) rfl dX6_qGoesOnTest_78 ?_
  replace h := ob h
  obtain ⟨x1, hx1, h⟩ := h
  refine kX6_takes S hK hM hS hx1 ⟨Nat.le_of_ble_eq_true rfl, Nat.le_of_ble_eq_true rfl⟩ hl.1 (Nat.le_of_ble_eq_true rfl) dX6_qGoesOnTest_81 (fun H locs hM hS => ?_)
  refine lv_if_eq (tgt := 126) hx hb dX6_qGoesOnTest_84 (by decide) (fun c2 => ?_) (fun c2 => ?_)
  rotate_left 1
  · replace h := ie c2 h
    exact wX6_qGoesOnTest_87 S hr hlk hK FU x1.1 h _ _ hM hS _ (lv_sub hl [0] rfl)
  replace h := it c2 h
  refine lv_aload_n hx hb dX6_qGoesOnTest_126 rfl (lv_at hl 0 rfl) ?_
  refine lv_aload_n hx hb dX6_qGoesOnTest_127 rfl (lv_at hl 0 rfl) ?_
  refine m_get S hK hM 79 (Nat.le_of_ble_eq_true rfl) q1811 (v := .ref (ma b 79)) rfl dX6_qGoesOnTest_128 ?_
  replace h := ob h
  obtain ⟨x3, hx3, h⟩ := h
  refine kX6_takes S hK hM hS hx3 ⟨Nat.le_of_ble_eq_true rfl, Nat.le_of_ble_eq_true rfl⟩ hl.1 (Nat.le_of_ble_eq_true rfl) dX6_qGoesOnTest_131 (fun H locs hM hS => ?_)
  refine lv_if_eq (tgt := 185) hx hb dX6_qGoesOnTest_134 (by decide) (fun c4 => ?_) (fun c4 => ?_)
  rotate_left 1
  · replace h := ie c4 h
    exact wX6_qGoesOnTest_137 S hr hlk hK FU x3.1 h _ _ hM hS _ (lv_sub hl [0] rfl)
  replace h := it c4 h
  refine lv_aload_n hx hb dX6_qGoesOnTest_185 rfl (lv_at hl 0 rfl) ?_
  refine m_get S hK hM 5 (Nat.le_of_ble_eq_true rfl) q1737 (v := .int (x3.1.1 5)) rfl dX6_qGoesOnTest_186 ?_
  refine lv_if_ne (tgt := 208) hx hb dX6_qGoesOnTest_189 (by decide) (fun c5 => ?_) (fun c5 => ?_)
  · replace h := ie c5 h
    refine lv_iconst (v := (0 : Int32)) hx hb dX6_qGoesOnTest_208 (by decide) ?_
    exact m_iret S hr hlk rfl hM hS h dX6_qGoesOnTest_209
  replace h := it c5 h
  refine lv_aload_n hx hb dX6_qGoesOnTest_192 rfl (lv_at hl 0 rfl) ?_
  replace h := ob h
  obtain ⟨x6, hx6, h⟩ := h
  refine kX6_qHasSquare S hK hM hS hx6 ⟨Nat.le_of_ble_eq_true rfl, Nat.le_of_ble_eq_true rfl⟩ hl.1 (Nat.le_of_ble_eq_true rfl) dX6_qGoesOnTest_193 (fun H locs hM hS => ?_)
  refine lv_if_eq (tgt := 208) hx hb dX6_qGoesOnTest_196 (by decide) (fun c7 => ?_) (fun c7 => ?_)
  · replace h := it c7 h
    refine lv_iconst (v := (0 : Int32)) hx hb dX6_qGoesOnTest_208 (by decide) ?_
    exact m_iret S hr hlk rfl hM hS h dX6_qGoesOnTest_209
  replace h := ie c7 h
  refine lv_aload_n hx hb dX6_qGoesOnTest_199 rfl (lv_at hl 0 rfl) ?_
  refine lv_iconst (v := (1 : Int32)) hx hb dX6_qGoesOnTest_200 (by decide) ?_
  refine lv_aload_n hx hb dX6_qGoesOnTest_201 rfl (lv_at hl 0 rfl) ?_
  refine m_get S hK hM 2 (Nat.le_of_ble_eq_true rfl) q1734 (v := .int (x3.1.1 2)) rfl dX6_qGoesOnTest_202 ?_
  replace h := ob h
  obtain ⟨x8, hx8, h⟩ := h
  refine kX6_fail S hK hM hS hx8 ⟨Nat.le_of_ble_eq_true rfl, Nat.le_of_ble_eq_true rfl⟩ hl.1 (Nat.le_of_ble_eq_true rfl) dX6_qGoesOnTest_205 (fun H locs hM hS => ?_)
  refine lv_iconst (v := (0 : Int32)) hx hb dX6_qGoesOnTest_208 (by decide) ?_
  exact m_iret S hr hlk rfl hM hS h dX6_qGoesOnTest_209
set_option maxHeartbeats 4000000 in
theorem wX6_qGoesOnTest_0 {p : Program} {l : Launch} {e : Env} {s : State} {m : MethodId} {args : Array Value} {below : List Frame} {meth : Method} {c : Code} {G : mG} {b : Nat} (S : CallFix p m c cX6_qGoesOnTest 1 s args lw_all RX6) (hr : meth.sig.returnType = some .boolean) (hlk : meth.locks = false) (hK : mK G s) {x : MS × Int32} : ∀ (n : Nat) (σ : MS), fX6_qGoesOnTest_0 n σ = some x → mGo p l e rmX6_qGoesOnTest s m args below meth c G b (MQ below (mQi G b x) args s 0 0 (mB b)) 1 0 [(0, .ref b)] [] σ := by
  obtain ⟨hx, hb, hml, hown, hts⟩ := id S
  intro n
  induction n with
  | zero => intro σ h; cases h
  | succ n ih =>
    intro σ h H locs hM hS ls hl
    rw [fX6_qGoesOnTest_0] at h
    refine lv_aload_n hx hb dX6_qGoesOnTest_0 rfl (lv_at hl 0 rfl) ?_
    refine m_get S hK hM 5 (Nat.le_of_ble_eq_true rfl) q1737 (v := .int (σ.1 5)) rfl dX6_qGoesOnTest_1 ?_
    refine lv_if_ne (tgt := 76) hx hb dX6_qGoesOnTest_4 (by decide) (fun c1 => ?_) (fun c1 => ?_)
    · replace h := ie c1 h
      exact wX6_qGoesOnTest_76 S hr hlk hK σ h _ _ hM hS _ (lv_sub hl [0] rfl)
    replace h := it c1 h
    refine lv_aload_n hx hb dX6_qGoesOnTest_7 rfl (lv_at hl 0 rfl) ?_
    replace h := ob h
    obtain ⟨x2, hx2, h⟩ := h
    refine kX6_look S hK hM hS hx2 ⟨Nat.le_of_ble_eq_true rfl, Nat.le_of_ble_eq_true rfl⟩ hl.1 (Nat.le_of_ble_eq_true rfl) dX6_qGoesOnTest_8 (fun H locs hM hS => ?_)
    refine lv_bipush (v := (93 : Int32)) hx hb dX6_qGoesOnTest_11 (by decide) ?_
    refine lv_icmp_ne (tgt := 76) hx hb dX6_qGoesOnTest_13 (by decide) (fun c3 => ?_) (fun c3 => ?_)
    · replace h := ie c3 h
      exact wX6_qGoesOnTest_76 S hr hlk hK x2.1 h _ _ hM hS _ (lv_sub hl [0] rfl)
    replace h := it c3 h
    refine lv_aload_n hx hb dX6_qGoesOnTest_16 rfl (lv_at hl 0 rfl) ?_
    replace h := ob h
    obtain ⟨x4, hx4, h⟩ := h
    refine kX6_qHasSquare S hK hM hS hx4 ⟨Nat.le_of_ble_eq_true rfl, Nat.le_of_ble_eq_true rfl⟩ hl.1 (Nat.le_of_ble_eq_true rfl) dX6_qGoesOnTest_17 (fun H locs hM hS => ?_)
    refine lv_if_eq (tgt := 76) hx hb dX6_qGoesOnTest_20 (by decide) (fun c5 => ?_) (fun c5 => ?_)
    · replace h := it c5 h
      exact wX6_qGoesOnTest_76 S hr hlk hK x2.1 h _ _ hM hS _ (lv_sub hl [0] rfl)
    replace h := ie c5 h
    refine lv_aload_n hx hb dX6_qGoesOnTest_23 rfl (lv_at hl 0 rfl) ?_
    refine lv_dup hx hb dX6_qGoesOnTest_24 rfl ?_
    refine m_get S hK hM 2 (Nat.le_of_ble_eq_true rfl) q1734 (v := .int (x2.1.1 2)) rfl dX6_qGoesOnTest_25 ?_
    refine lv_iconst (v := (1 : Int32)) hx hb dX6_qGoesOnTest_28 (by decide) ?_
    refine lv_iadd hx hb dX6_qGoesOnTest_29 ?_
    refine m_putI S hK hM hS 2 (Nat.le_of_ble_eq_true rfl) rfl q1734 rfl (ty := .int) rfl rfl rfl dX6_qGoesOnTest_30 (fun H locs hM hS => ?_)
    exact wX6_qGoesOnTest_33 S hr hlk hK ih FU (sI x2.1 2 ((x2.1.1 2) + (1 : Int32))) h _ _ hM hS _ (lv_sub hl [0] rfl)
set_option maxHeartbeats 4000000 in
theorem metX6_qGoesOnTest {l : Launch} {G : mG} {b : Nat} {σ : MS} {x : MS × Int32} (h : fX6_qGoesOnTest σ = some x) : Met l yX6_qGoesOnTest (ws_ yX6_qGoesOnTest cX6_qGoesOnTest 1 (some .boolean)) rmX6_qGoesOnTest (mP G b σ [.ref b]) (mQi G b x) 0 0 (mB b) := by
  refine m_entry (by decide) rfl (Nat.le_of_ble_eq_true rfl) ?_
  intro p e s m below meth c S hr hlk hK hM hS ls hl
  replace hl : lv_has ls 1 [(0, .ref b)] := hl
  obtain ⟨hx, hb, hml, hown, hts⟩ := id S
  unfold fX6_qGoesOnTest at h
  exact wX6_qGoesOnTest_0 S hr hlk hK FU σ h _ _ hM hS _ (lv_sub hl [0] rfl)
theorem kX6_qGoesOnTest {p : Program} {l : Launch} {e : Env} {R : Room} {s : State} {m : MethodId} {args : Array Value} {below : List Frame} {meth : Method} {c : Code} {H H0 : Heap} {locs : List Loc} {Q : State → Prop} {cc : ByteArray} {nL pc : Nat} {ls : Array Slot} {rest : List Value} {G : mG} {b : Nat} {σ : MS} {x : MS × Int32} (S : CallFix p m c cc nL s args lw_all RX6) (hK : mK G s) (hM : MW G b σ H) (hS : va_S (mB b) H0 H locs) (hf : fX6_qGoesOnTest σ = some x) (hR : rmX6_qGoesOnTest.frames + 1 ≤ R.frames ∧ 8 + (1 + 11) + rmX6_qGoesOnTest.locals ≤ R.locals) (hsize : ls.size = nL) (hr : (rest.map fun v => v.category).sum ≤ 8) (hdg : decode cc pc = .ok (.invokevirtual 643, 3)) (kk : ∀ (H1 : Heap) (locs1 : List Loc), MW G b x.1 H1 → va_S (mB b) H0 H1 locs1 → W p l e R s m args below meth c H1 locs1 0 0 Q (F0 m (pc + 3) ls (.int x.2 :: rest))) : W p l e R s m args below meth c H locs 0 0 Q (F0 m pc ls (.ref b :: rest)) :=
  m_cVi (As := []) S hK hM hS (metX6_qGoesOnTest hf) (cwV 0 S.2.2.2.2 (lw_V q2226 q2228 qs104 q179 q2229) rfl rfl rfl (by decide +kernel) hR) ⟨Nat.zero_le _, Nat.zero_le _⟩ rfl hsize rfl hr hdg kk
/-! qTest()V -/
abbrev rmX6_qTest : Room := { frames := 9, cells := 0, slots := 0, locals := 174 }
def fX6_qTest_106 (k2 : MS → Int32 → Option (MS)) (σ : MS) (t0 : Int32) : Option (MS) :=
  k2 σ t0
def fX6_qTest_105 (k2 : MS → Int32 → Option (MS)) (σ : MS) : Option (MS) :=
  fX6_qTest_106 k2 σ (0 : Int32)
def fX6_qTest_110 : Nat → MS → Option (MS)
  | 0, _ => none
  | n + 1, σ =>
    if (σ.1 5) = 0 then
      if (σ.1 94) ≤ 0 then
        some σ
      else
      (fX6_qDrops σ).bind fun x3 =>
      fX6_qTest_110 n x3
    else
    some σ
def fX6_qTest_2 : Nat → MS → Int32 → Option (MS)
  | 0, _, _ => none
  | n + 1, σ, a1 =>
    if a1 = 0 then
      fX6_qTest_110 FU σ
    else
    if (σ.1 5) = 0 then
      (fX6_look σ).bind fun x3 =>
      if x3.2 = (91 : Int32) then
        (fX6_qOpens x3.1 (25 : Int32) (x3.1.1 2)).bind fun x14 =>
        fX6_qTest_2 n (sI x14 2 ((x14.1 2) + (1 : Int32))) a1
      else
      (fX6_isHere x3.1 77).bind fun x5 =>
      if x5.2 = 0 then
        (fX6_qFact x5.1).bind fun x7 =>
        (fX6_qDropsNots x7).bind fun x8 =>
        if (x8.1 5) = 0 then
          (fX6_qGoesOnTest x8).bind fun x10 =>
          if x10.2 = 0 then
            fX6_qTest_105 (fun σ' b1 => fX6_qTest_2 n σ' b1) x10.1
          else
          fX6_qTest_106 (fun σ' b1 => fX6_qTest_2 n σ' b1) x10.1 (1 : Int32)
        else
        fX6_qTest_105 (fun σ' b1 => fX6_qTest_2 n σ' b1) x8
      else
      (fX6_qOpens x5.1 (12 : Int32) (x5.1.1 2)).bind fun x12 =>
      (fX6_asks x12 77).bind fun x13 =>
      fX6_qTest_2 n x13 a1
    else
    fX6_qTest_110 FU σ
def fX6_qTest (σ : MS) : Option (MS) :=
  fX6_qTest_2 FU σ (1 : Int32)
set_option maxHeartbeats 4000000 in
theorem wX6_qTest_106 {p : Program} {l : Launch} {e : Env} {s : State} {m : MethodId} {args : Array Value} {below : List Frame} {meth : Method} {c : Code} {G : mG} {b : Nat} (S : CallFix p m c cX6_qTest 3 s args lw_all RX6) (hr : meth.sig.returnType = none) (hlk : meth.locks = false) (hK : mK G s) {x : MS} {k2 : MS → Int32 → Option (MS)} (hk2 : ∀ σ a1, k2 σ a1 = some x → mGo p l e rmX6_qTest s m args below meth c G b (MQ below (mQv G b x) args s 0 0 (mB b)) 3 2 [(0, .ref b), (1, .int a1)] [] σ) : ∀ (σ : MS) (t0 : Int32), fX6_qTest_106 k2 σ t0 = some x → mGo p l e rmX6_qTest s m args below meth c G b (MQ below (mQv G b x) args s 0 0 (mB b)) 3 106 [(0, .ref b)] [.int t0] σ := by
  obtain ⟨hx, hb, hml, hown, hts⟩ := id S
  intro σ t0 h H locs hM hS ls hl
  unfold fX6_qTest_106 at h
  refine lv_istore_n (lv' := [(1, .int t0), (0, .ref b)]) hx hb dX6_qTest_106 rfl hl (by decide) rfl (fun ls hl => ?_)
  refine lv_goto (tgt := 2) hx hb dX6_qTest_107 (by decide) ?_
  exact hk2 σ t0 h _ _ hM hS _ (lv_sub hl [1, 0] rfl)
set_option maxHeartbeats 4000000 in
theorem wX6_qTest_105 {p : Program} {l : Launch} {e : Env} {s : State} {m : MethodId} {args : Array Value} {below : List Frame} {meth : Method} {c : Code} {G : mG} {b : Nat} (S : CallFix p m c cX6_qTest 3 s args lw_all RX6) (hr : meth.sig.returnType = none) (hlk : meth.locks = false) (hK : mK G s) {x : MS} {k2 : MS → Int32 → Option (MS)} (hk2 : ∀ σ a1, k2 σ a1 = some x → mGo p l e rmX6_qTest s m args below meth c G b (MQ below (mQv G b x) args s 0 0 (mB b)) 3 2 [(0, .ref b), (1, .int a1)] [] σ) : ∀ (σ : MS), fX6_qTest_105 k2 σ = some x → mGo p l e rmX6_qTest s m args below meth c G b (MQ below (mQv G b x) args s 0 0 (mB b)) 3 105 [(0, .ref b)] [] σ := by
  obtain ⟨hx, hb, hml, hown, hts⟩ := id S
  intro σ h H locs hM hS ls hl
  unfold fX6_qTest_105 at h
  refine lv_iconst (v := (0 : Int32)) hx hb dX6_qTest_105 (by decide) ?_
  exact wX6_qTest_106 S hr hlk hK hk2 σ (0 : Int32) h _ _ hM hS _ (lv_sub hl [0] rfl)
set_option maxHeartbeats 4000000 in
theorem wX6_qTest_110 {p : Program} {l : Launch} {e : Env} {s : State} {m : MethodId} {args : Array Value} {below : List Frame} {meth : Method} {c : Code} {G : mG} {b : Nat} (S : CallFix p m c cX6_qTest 3 s args lw_all RX6) (hr : meth.sig.returnType = none) (hlk : meth.locks = false) (hK : mK G s) {x : MS} : ∀ (n : Nat) (σ : MS), fX6_qTest_110 n σ = some x → mGo p l e rmX6_qTest s m args below meth c G b (MQ below (mQv G b x) args s 0 0 (mB b)) 3 110 [(0, .ref b)] [] σ := by
  obtain ⟨hx, hb, hml, hown, hts⟩ := id S
  intro n
  induction n with
  | zero => intro σ h; cases h
  | succ n ih =>
    intro σ h H locs hM hS ls hl
    rw [fX6_qTest_110] at h
    refine lv_aload_n hx hb dX6_qTest_110 rfl (lv_at hl 0 rfl) ?_
    refine m_get S hK hM 5 (Nat.le_of_ble_eq_true rfl) q1737 (v := .int (σ.1 5)) rfl dX6_qTest_111 ?_
    refine lv_if_ne (tgt := 131) hx hb dX6_qTest_114 (by decide) (fun c1 => ?_) (fun c1 => ?_)
    · replace h := ie c1 h
      exact m_vret S hr hlk hM hS h dX6_qTest_131
    replace h := it c1 h
    refine lv_aload_n hx hb dX6_qTest_117 rfl (lv_at hl 0 rfl) ?_
    refine m_get S hK hM 94 (Nat.le_of_ble_eq_true rfl) q1826 (v := .int (σ.1 94)) rfl dX6_qTest_118 ?_
    refine lv_if_le (tgt := 131) hx hb dX6_qTest_121 (by decide) (fun c2 => ?_) (fun c2 => ?_)
    · replace h := it c2 h
      exact m_vret S hr hlk hM hS h dX6_qTest_131
    replace h := ie c2 h
    refine lv_aload_n hx hb dX6_qTest_124 rfl (lv_at hl 0 rfl) ?_
    replace h := ob h
    obtain ⟨x3, hx3, h⟩ := h
    refine kX6_qDrops S hK hM hS hx3 ⟨Nat.le_of_ble_eq_true rfl, Nat.le_of_ble_eq_true rfl⟩ hl.1 (Nat.le_of_ble_eq_true rfl) dX6_qTest_125 (fun H locs hM hS => ?_)
    refine lv_goto (tgt := 110) hx hb dX6_qTest_128 (by decide) ?_
    exact ih x3 h _ _ hM hS _ (lv_sub hl [0] rfl)
set_option maxHeartbeats 4000000 in
theorem wX6_qTest_2 {p : Program} {l : Launch} {e : Env} {s : State} {m : MethodId} {args : Array Value} {below : List Frame} {meth : Method} {c : Code} {G : mG} {b : Nat} (S : CallFix p m c cX6_qTest 3 s args lw_all RX6) (hr : meth.sig.returnType = none) (hlk : meth.locks = false) (hK : mK G s) {x : MS} : ∀ (n : Nat) (σ : MS) (a1 : Int32), fX6_qTest_2 n σ a1 = some x → mGo p l e rmX6_qTest s m args below meth c G b (MQ below (mQv G b x) args s 0 0 (mB b)) 3 2 [(0, .ref b), (1, .int a1)] [] σ := by
  obtain ⟨hx, hb, hml, hown, hts⟩ := id S
  intro n
  induction n with
  | zero => intro σ a1 h; cases h
  | succ n ih =>
    intro σ a1 h H locs hM hS ls hl
    rw [fX6_qTest_2] at h
    refine lv_iload_n hx hb dX6_qTest_2 rfl (lv_at hl 1 rfl) ?_
    refine lv_if_eq (tgt := 110) hx hb dX6_qTest_3 (by decide) (fun c1 => ?_) (fun c1 => ?_)
    · replace h := it c1 h
      exact wX6_qTest_110 S hr hlk hK FU σ h _ _ hM hS _ (lv_sub hl [0] rfl)
    replace h := ie c1 h
    refine lv_aload_n hx hb dX6_qTest_6 rfl (lv_at hl 0 rfl) ?_
    refine m_get S hK hM 5 (Nat.le_of_ble_eq_true rfl) q1737 (v := .int (σ.1 5)) rfl dX6_qTest_7 ?_
    refine lv_if_ne (tgt := 110) hx hb dX6_qTest_10 (by decide) (fun c2 => ?_) (fun c2 => ?_)
    · replace h := ie c2 h
      exact wX6_qTest_110 S hr hlk hK FU σ h _ _ hM hS _ (lv_sub hl [0] rfl)
    replace h := it c2 h
    refine lv_aload_n hx hb dX6_qTest_13 rfl (lv_at hl 0 rfl) ?_
    replace h := ob h
    obtain ⟨x3, hx3, h⟩ := h
    refine kX6_look S hK hM hS hx3 ⟨Nat.le_of_ble_eq_true rfl, Nat.le_of_ble_eq_true rfl⟩ hl.1 (Nat.le_of_ble_eq_true rfl) dX6_qTest_14 (fun H locs hM hS => ?_)
    refine lv_istore_n (lv' := [(2, .int x3.2), (0, .ref b), (1, .int a1)]) hx hb dX6_qTest_17 rfl hl (by decide) rfl (fun ls hl => ?_)
    refine lv_iload_n hx hb dX6_qTest_18 rfl (lv_at hl 0 rfl) ?_
    refine lv_bipush (v := (91 : Int32)) hx hb dX6_qTest_19 (by decide) ?_
    refine lv_icmp_ne (tgt := 47) hx hb dX6_qTest_21 (by decide) (fun c4 => ?_) (fun c4 => ?_)
    rotate_left 1
    · replace h := it c4 h
      refine lv_aload_n hx hb dX6_qTest_24 rfl (lv_at hl 1 rfl) ?_
      refine lv_bipush (v := (25 : Int32)) hx hb dX6_qTest_25 (by decide) ?_
      refine lv_aload_n hx hb dX6_qTest_27 rfl (lv_at hl 1 rfl) ?_
      refine m_get S hK hM 2 (Nat.le_of_ble_eq_true rfl) q1734 (v := .int (x3.1.1 2)) rfl dX6_qTest_28 ?_
      replace h := ob h
      obtain ⟨x14, hx14, h⟩ := h
      refine kX6_qOpens S hK hM hS hx14 ⟨Nat.le_of_ble_eq_true rfl, Nat.le_of_ble_eq_true rfl⟩ hl.1 (Nat.le_of_ble_eq_true rfl) dX6_qTest_31 (fun H locs hM hS => ?_)
      refine lv_aload_n hx hb dX6_qTest_34 rfl (lv_at hl 1 rfl) ?_
      refine lv_dup hx hb dX6_qTest_35 rfl ?_
      refine m_get S hK hM 2 (Nat.le_of_ble_eq_true rfl) q1734 (v := .int (x14.1 2)) rfl dX6_qTest_36 ?_
      refine lv_iconst (v := (1 : Int32)) hx hb dX6_qTest_39 (by decide) ?_
      refine lv_iadd hx hb dX6_qTest_40 ?_
      refine m_putI S hK hM hS 2 (Nat.le_of_ble_eq_true rfl) rfl q1734 rfl (ty := .int) rfl rfl rfl dX6_qTest_41 (fun H locs hM hS => ?_)
      refine lv_goto (tgt := 2) hx hb dX6_qTest_44 (by decide) ?_
      exact ih (sI x14 2 ((x14.1 2) + (1 : Int32))) a1 h _ _ hM hS _ (lv_sub hl [1, 2] rfl)
    replace h := ie c4 h
    refine lv_aload_n hx hb dX6_qTest_47 rfl (lv_at hl 1 rfl) ?_
    refine lv_aload_n hx hb dX6_qTest_48 rfl (lv_at hl 1 rfl) ?_
    refine m_get S hK hM 77 (Nat.le_of_ble_eq_true rfl) q1809 (v := .ref (ma b 77)) rfl dX6_qTest_49 ?_
    replace h := ob h
    obtain ⟨x5, hx5, h⟩ := h
    refine kX6_isHere S hK hM hS hx5 ⟨Nat.le_of_ble_eq_true rfl, Nat.le_of_ble_eq_true rfl⟩ hl.1 (Nat.le_of_ble_eq_true rfl) dX6_qTest_52 (fun H locs hM hS => ?_)
    refine lv_if_eq (tgt := 79) hx hb dX6_qTest_55 (by decide) (fun c6 => ?_) (fun c6 => ?_)
    rotate_left 1
    · replace h := ie c6 h
      refine lv_aload_n hx hb dX6_qTest_58 rfl (lv_at hl 1 rfl) ?_
      refine lv_bipush (v := (12 : Int32)) hx hb dX6_qTest_59 (by decide) ?_
      refine lv_aload_n hx hb dX6_qTest_61 rfl (lv_at hl 1 rfl) ?_
      refine m_get S hK hM 2 (Nat.le_of_ble_eq_true rfl) q1734 (v := .int (x5.1.1 2)) rfl dX6_qTest_62 ?_
      replace h := ob h
      obtain ⟨x12, hx12, h⟩ := h
      refine kX6_qOpens S hK hM hS hx12 ⟨Nat.le_of_ble_eq_true rfl, Nat.le_of_ble_eq_true rfl⟩ hl.1 (Nat.le_of_ble_eq_true rfl) dX6_qTest_65 (fun H locs hM hS => ?_)
      refine lv_aload_n hx hb dX6_qTest_68 rfl (lv_at hl 1 rfl) ?_
      refine lv_aload_n hx hb dX6_qTest_69 rfl (lv_at hl 1 rfl) ?_
      refine m_get S hK hM 77 (Nat.le_of_ble_eq_true rfl) q1809 (v := .ref (ma b 77)) rfl dX6_qTest_70 ?_
      replace h := ob h
      obtain ⟨x13, hx13, h⟩ := h
      refine kX6_asks S hK hM hS hx13 ⟨Nat.le_of_ble_eq_true rfl, Nat.le_of_ble_eq_true rfl⟩ hl.1 (Nat.le_of_ble_eq_true rfl) dX6_qTest_73 (fun H locs hM hS => ?_)
      refine lv_goto (tgt := 2) hx hb dX6_qTest_76 (by decide) ?_
      exact ih x13 a1 h _ _ hM hS _ (lv_sub hl [1, 2] rfl)
    replace h := it c6 h
    refine lv_aload_n hx hb dX6_qTest_79 rfl (lv_at hl 1 rfl) ?_
    replace h := ob h
    obtain ⟨x7, hx7, h⟩ := h
    refine kX6_qFact S hK hM hS hx7 ⟨Nat.le_of_ble_eq_true rfl, Nat.le_of_ble_eq_true rfl⟩ hl.1 (Nat.le_of_ble_eq_true rfl) dX6_qTest_80 (fun H locs hM hS => ?_)
    refine lv_aload_n hx hb dX6_qTest_83 rfl (lv_at hl 1 rfl) ?_
    replace h := ob h
    obtain ⟨x8, hx8, h⟩ := h
    refine kX6_qDropsNots S hK hM hS hx8 ⟨Nat.le_of_ble_eq_true rfl, Nat.le_of_ble_eq_true rfl⟩ hl.1 (Nat.le_of_ble_eq_true rfl) dX6_qTest_84 (fun H locs hM hS => ?_)
    refine lv_aload_n hx hb dX6_qTest_87 rfl (lv_at hl 1 rfl) ?_
    refine m_get S hK hM 5 (Nat.le_of_ble_eq_true rfl) q1737 (v := .int (x8.1 5)) rfl dX6_qTest_88 ?_
    refine lv_if_ne (tgt := 105) hx hb dX6_qTest_91 (by decide) (fun c9 => ?_) (fun c9 => ?_)
    · replace h := ie c9 h
      exact wX6_qTest_105 S hr hlk hK ih x8 h _ _ hM hS _ (lv_sub hl [1] rfl)
    replace h := it c9 h
    refine lv_aload_n hx hb dX6_qTest_94 rfl (lv_at hl 1 rfl) ?_
    replace h := ob h
    obtain ⟨x10, hx10, h⟩ := h
    refine kX6_qGoesOnTest S hK hM hS hx10 ⟨Nat.le_of_ble_eq_true rfl, Nat.le_of_ble_eq_true rfl⟩ hl.1 (Nat.le_of_ble_eq_true rfl) dX6_qTest_95 (fun H locs hM hS => ?_)
    refine lv_if_eq (tgt := 105) hx hb dX6_qTest_98 (by decide) (fun c11 => ?_) (fun c11 => ?_)
    · replace h := it c11 h
      exact wX6_qTest_105 S hr hlk hK ih x10.1 h _ _ hM hS _ (lv_sub hl [1] rfl)
    replace h := ie c11 h
    refine lv_iconst (v := (1 : Int32)) hx hb dX6_qTest_101 (by decide) ?_
    refine lv_goto (tgt := 106) hx hb dX6_qTest_102 (by decide) ?_
    exact wX6_qTest_106 S hr hlk hK ih x10.1 (1 : Int32) h _ _ hM hS _ (lv_sub hl [1] rfl)
set_option maxHeartbeats 4000000 in
theorem metX6_qTest {l : Launch} {G : mG} {b : Nat} {σ : MS} {x : MS} (h : fX6_qTest σ = some x) : Met l yX6_qTest (ws_ yX6_qTest cX6_qTest 3 (none)) rmX6_qTest (mP G b σ [.ref b]) (mQv G b x) 0 0 (mB b) := by
  refine m_entry (by decide) rfl (Nat.le_of_ble_eq_true rfl) ?_
  intro p e s m below meth c S hr hlk hK hM hS ls hl
  replace hl : lv_has ls 3 [(0, .ref b)] := hl
  obtain ⟨hx, hb, hml, hown, hts⟩ := id S
  unfold fX6_qTest at h
  refine lv_iconst (v := (1 : Int32)) hx hb dX6_qTest_0 (by decide) ?_
  refine lv_istore_n (lv' := [(1, .int (1 : Int32)), (0, .ref b)]) hx hb dX6_qTest_1 rfl hl (by decide) rfl (fun ls hl => ?_)
  exact wX6_qTest_2 S hr hlk hK FU σ (1 : Int32) h _ _ hM hS _ (lv_sub hl [1, 0] rfl)
theorem kX6_qTest {p : Program} {l : Launch} {e : Env} {R : Room} {s : State} {m : MethodId} {args : Array Value} {below : List Frame} {meth : Method} {c : Code} {H H0 : Heap} {locs : List Loc} {Q : State → Prop} {cc : ByteArray} {nL pc : Nat} {ls : Array Slot} {rest : List Value} {G : mG} {b : Nat} {σ : MS} {x : MS} (S : CallFix p m c cc nL s args lw_all RX6) (hK : mK G s) (hM : MW G b σ H) (hS : va_S (mB b) H0 H locs) (hf : fX6_qTest σ = some x) (hR : rmX6_qTest.frames + 1 ≤ R.frames ∧ 8 + (3 + 11) + rmX6_qTest.locals ≤ R.locals) (hsize : ls.size = nL) (hr : (rest.map fun v => v.category).sum ≤ 8) (hdg : decode cc pc = .ok (.invokevirtual 350, 3)) (kk : ∀ (H1 : Heap) (locs1 : List Loc), MW G b x H1 → va_S (mB b) H0 H1 locs1 → W p l e R s m args below meth c H1 locs1 0 0 Q (F0 m (pc + 3) ls (rest))) : W p l e R s m args below meth c H locs 0 0 Q (F0 m pc ls (.ref b :: rest)) :=
  m_cVv (As := []) S hK hM hS (metX6_qTest hf) (cwV 0 S.2.2.2.2 (lw_V q2145 q2147 qs85 q179 q2148) rfl rfl rfl (by decide +kernel) hR) ⟨Nat.zero_le _, Nat.zero_le _⟩ rfl hsize rfl hr hdg kk
/-! codesTold(II)V -/
abbrev rmX6_codesTold : Room := { frames := 10, cells := 0, slots := 0, locals := 196 }
def fX6_codesTold_92 : Nat → MS → Int32 → Int32 → Option (MS)
  | 0, _, _, _ => none
  | n + 1, σ, a1, a3 =>
    if (σ.1 92) ≤ a3 then
      (tI σ 49 a1 (σ.1 51)).bind fun σ2 =>
      some σ2
    else
    (aI σ 91 a3).bind fun v3 =>
    (tI σ 50 (σ.1 51) v3).bind fun σ4 =>
    fX6_codesTold_92 n (sI σ4 51 ((σ4.1 51) + (1 : Int32))) a1 (a3 + (1 : Int32))
def fX6_codesTold_72 (σ : MS) (a1 : Int32) : Option (MS) :=
  if (σ.1 5) = 0 then
    (tI σ 48 a1 (σ.1 51)).bind fun σ2 =>
    fX6_codesTold_92 FU σ2 a1 (0 : Int32)
  else
  some σ
def fX6_codesTold_23 (σ : MS) (a1 : Int32) : Option (MS) :=
  if (σ.1 5) = 0 then
    if a1 = (2 : Int32) then
      (fX6_qTest (sI (sI (sI (sI (sI σ 53 a1) 92 (0 : Int32)) 94 (0 : Int32)) 95 (0 : Int32)) 96 (0 : Int32))).bind fun x4 =>
      fX6_codesTold_72 x4 a1
    else
    (fX6_qSums (sI (sI (sI (sI (sI σ 53 a1) 92 (0 : Int32)) 94 (0 : Int32)) 95 (0 : Int32)) 96 (0 : Int32))).bind fun x3 =>
    fX6_codesTold_72 x3 a1
  else
  some σ
def fX6_codesTold (σ : MS) (a1 : Int32) (a2 : Int32) : Option (MS) :=
  if (σ.1 5) = 0 then
    (aI σ 48 a1).bind fun v2 =>
    if v2 = (-1 : Int32) then
      fX6_codesTold_23 σ a1
    else
    (fX6_fail σ (5 : Int32) a2).bind fun x4 =>
    fX6_codesTold_23 x4 a1
  else
  fX6_codesTold_23 σ a1
set_option maxHeartbeats 4000000 in
theorem wX6_codesTold_92 {p : Program} {l : Launch} {e : Env} {s : State} {m : MethodId} {args : Array Value} {below : List Frame} {meth : Method} {c : Code} {G : mG} {b : Nat} (S : CallFix p m c cX6_codesTold 4 s args lw_all RX6) (hr : meth.sig.returnType = none) (hlk : meth.locks = false) (hK : mK G s) {x : MS} : ∀ (n : Nat) (σ : MS) (a1 : Int32) (a3 : Int32), fX6_codesTold_92 n σ a1 a3 = some x → mGo p l e rmX6_codesTold s m args below meth c G b (MQ below (mQv G b x) args s 0 0 (mB b)) 4 92 [(0, .ref b), (1, .int a1), (3, .int a3)] [] σ := by
  obtain ⟨hx, hb, hml, hown, hts⟩ := id S
  intro n
  induction n with
  | zero => intro σ a1 a3 h; cases h
  | succ n ih =>
    intro σ a1 a3 h H locs hM hS ls hl
    rw [fX6_codesTold_92] at h
    refine lv_iload_n hx hb dX6_codesTold_92 rfl (lv_at hl 2 rfl) ?_
    refine lv_aload_n hx hb dX6_codesTold_93 rfl (lv_at hl 0 rfl) ?_
    refine m_get S hK hM 92 (Nat.le_of_ble_eq_true rfl) q1824 (v := .int (σ.1 92)) rfl dX6_codesTold_94 ?_
    refine lv_icmp_ge (tgt := 131) hx hb dX6_codesTold_97 (by decide) (fun c1 => ?_) (fun c1 => ?_)
    · replace h := it c1 h
      refine lv_aload_n hx hb dX6_codesTold_131 rfl (lv_at hl 0 rfl) ?_
      refine m_get S hK hM 49 (Nat.le_of_ble_eq_true rfl) q1781 (v := .ref (ma b 49)) rfl dX6_codesTold_132 ?_
      refine lv_iload_n hx hb dX6_codesTold_135 rfl (lv_at hl 1 rfl) ?_
      refine lv_aload_n hx hb dX6_codesTold_136 rfl (lv_at hl 0 rfl) ?_
      refine m_get S hK hM 51 (Nat.le_of_ble_eq_true rfl) q1783 (v := .int (σ.1 51)) rfl dX6_codesTold_137 ?_
      replace h := ob h
      obtain ⟨σ2, hσ2, h⟩ := h
      refine m_iast S hK hM hS 49 rfl hσ2 dX6_codesTold_140 (fun H locs hM hS => ?_)
      exact m_vret S hr hlk hM hS h dX6_codesTold_141
    replace h := ie c1 h
    refine lv_aload_n hx hb dX6_codesTold_100 rfl (lv_at hl 0 rfl) ?_
    refine m_get S hK hM 50 (Nat.le_of_ble_eq_true rfl) q1782 (v := .ref (ma b 50)) rfl dX6_codesTold_101 ?_
    refine lv_aload_n hx hb dX6_codesTold_104 rfl (lv_at hl 0 rfl) ?_
    refine m_get S hK hM 51 (Nat.le_of_ble_eq_true rfl) q1783 (v := .int (σ.1 51)) rfl dX6_codesTold_105 ?_
    refine lv_aload_n hx hb dX6_codesTold_108 rfl (lv_at hl 0 rfl) ?_
    refine m_get S hK hM 91 (Nat.le_of_ble_eq_true rfl) q1823 (v := .ref (ma b 91)) rfl dX6_codesTold_109 ?_
    refine lv_iload_n hx hb dX6_codesTold_112 rfl (lv_at hl 2 rfl) ?_
    replace h := ob h
    obtain ⟨v3, hv3, h⟩ := h
    refine m_iald S hK hM 91 rfl hv3 dX6_codesTold_113 ?_
    replace h := ob h
    obtain ⟨σ4, hσ4, h⟩ := h
    refine m_iast S hK hM hS 50 rfl hσ4 dX6_codesTold_114 (fun H locs hM hS => ?_)
    refine lv_aload_n hx hb dX6_codesTold_115 rfl (lv_at hl 0 rfl) ?_
    refine lv_dup hx hb dX6_codesTold_116 rfl ?_
    refine m_get S hK hM 51 (Nat.le_of_ble_eq_true rfl) q1783 (v := .int (σ4.1 51)) rfl dX6_codesTold_117 ?_
    refine lv_iconst (v := (1 : Int32)) hx hb dX6_codesTold_120 (by decide) ?_
    refine lv_iadd hx hb dX6_codesTold_121 ?_
    refine m_putI S hK hM hS 51 (Nat.le_of_ble_eq_true rfl) rfl q1783 rfl (ty := .int) rfl rfl rfl dX6_codesTold_122 (fun H locs hM hS => ?_)
    refine lv_iinc (v := (a3 + (1 : Int32))) (lv' := [(3, .int (a3 + (1 : Int32))), (0, .ref b), (1, .int a1)]) hx hb dX6_codesTold_125 hl (k := 2) rfl rfl (by decide) rfl (fun ls hl => ?_)
    refine lv_goto (tgt := 92) hx hb dX6_codesTold_128 (by decide) ?_
    exact ih (sI σ4 51 ((σ4.1 51) + (1 : Int32))) a1 (a3 + (1 : Int32)) h _ _ hM hS _ (lv_sub hl [1, 2, 0] rfl)
set_option maxHeartbeats 4000000 in
theorem wX6_codesTold_72 {p : Program} {l : Launch} {e : Env} {s : State} {m : MethodId} {args : Array Value} {below : List Frame} {meth : Method} {c : Code} {G : mG} {b : Nat} (S : CallFix p m c cX6_codesTold 4 s args lw_all RX6) (hr : meth.sig.returnType = none) (hlk : meth.locks = false) (hK : mK G s) {x : MS} : ∀ (σ : MS) (a1 : Int32), fX6_codesTold_72 σ a1 = some x → mGo p l e rmX6_codesTold s m args below meth c G b (MQ below (mQv G b x) args s 0 0 (mB b)) 4 72 [(0, .ref b), (1, .int a1)] [] σ := by
  obtain ⟨hx, hb, hml, hown, hts⟩ := id S
  intro σ a1 h H locs hM hS ls hl
  unfold fX6_codesTold_72 at h
  refine lv_aload_n hx hb dX6_codesTold_72 rfl (lv_at hl 0 rfl) ?_
  refine m_get S hK hM 5 (Nat.le_of_ble_eq_true rfl) q1737 (v := .int (σ.1 5)) rfl dX6_codesTold_73 ?_
  refine lv_if_eq (tgt := 80) hx hb dX6_codesTold_76 (by decide) (fun c1 => ?_) (fun c1 => ?_)
  rotate_left 1
  · replace h := ie c1 h
    exact m_vret S hr hlk hM hS h dX6_codesTold_79
  replace h := it c1 h
  refine lv_aload_n hx hb dX6_codesTold_80 rfl (lv_at hl 0 rfl) ?_
  refine m_get S hK hM 48 (Nat.le_of_ble_eq_true rfl) q1780 (v := .ref (ma b 48)) rfl dX6_codesTold_81 ?_
  refine lv_iload_n hx hb dX6_codesTold_84 rfl (lv_at hl 1 rfl) ?_
  refine lv_aload_n hx hb dX6_codesTold_85 rfl (lv_at hl 0 rfl) ?_
  refine m_get S hK hM 51 (Nat.le_of_ble_eq_true rfl) q1783 (v := .int (σ.1 51)) rfl dX6_codesTold_86 ?_
  replace h := ob h
  obtain ⟨σ2, hσ2, h⟩ := h
  refine m_iast S hK hM hS 48 rfl hσ2 dX6_codesTold_89 (fun H locs hM hS => ?_)
  refine lv_iconst (v := (0 : Int32)) hx hb dX6_codesTold_90 (by decide) ?_
  refine lv_istore_n (lv' := [(3, .int (0 : Int32)), (0, .ref b), (1, .int a1)]) hx hb dX6_codesTold_91 rfl hl (by decide) rfl (fun ls hl => ?_)
  exact wX6_codesTold_92 S hr hlk hK FU σ2 a1 (0 : Int32) h _ _ hM hS _ (lv_sub hl [1, 2, 0] rfl)
set_option maxHeartbeats 4000000 in
theorem wX6_codesTold_23 {p : Program} {l : Launch} {e : Env} {s : State} {m : MethodId} {args : Array Value} {below : List Frame} {meth : Method} {c : Code} {G : mG} {b : Nat} (S : CallFix p m c cX6_codesTold 4 s args lw_all RX6) (hr : meth.sig.returnType = none) (hlk : meth.locks = false) (hK : mK G s) {x : MS} : ∀ (σ : MS) (a1 : Int32), fX6_codesTold_23 σ a1 = some x → mGo p l e rmX6_codesTold s m args below meth c G b (MQ below (mQv G b x) args s 0 0 (mB b)) 4 23 [(0, .ref b), (1, .int a1)] [] σ := by
  obtain ⟨hx, hb, hml, hown, hts⟩ := id S
  intro σ a1 h H locs hM hS ls hl
  unfold fX6_codesTold_23 at h
  refine lv_aload_n hx hb dX6_codesTold_23 rfl (lv_at hl 0 rfl) ?_
  refine m_get S hK hM 5 (Nat.le_of_ble_eq_true rfl) q1737 (v := .int (σ.1 5)) rfl dX6_codesTold_24 ?_
  refine lv_if_eq (tgt := 31) hx hb dX6_codesTold_27 (by decide) (fun c1 => ?_) (fun c1 => ?_)
  rotate_left 1
  · replace h := ie c1 h
    exact m_vret S hr hlk hM hS h dX6_codesTold_30
  replace h := it c1 h
  refine lv_aload_n hx hb dX6_codesTold_31 rfl (lv_at hl 0 rfl) ?_
  refine lv_iload_n hx hb dX6_codesTold_32 rfl (lv_at hl 1 rfl) ?_
  refine m_putI S hK hM hS 53 (Nat.le_of_ble_eq_true rfl) rfl q1785 rfl (ty := .int) rfl rfl rfl dX6_codesTold_33 (fun H locs hM hS => ?_)
  refine lv_aload_n hx hb dX6_codesTold_36 rfl (lv_at hl 0 rfl) ?_
  refine lv_iconst (v := (0 : Int32)) hx hb dX6_codesTold_37 (by decide) ?_
  refine m_putI S hK hM hS 92 (Nat.le_of_ble_eq_true rfl) rfl q1824 rfl (ty := .int) rfl rfl rfl dX6_codesTold_38 (fun H locs hM hS => ?_)
  refine lv_aload_n hx hb dX6_codesTold_41 rfl (lv_at hl 0 rfl) ?_
  refine lv_iconst (v := (0 : Int32)) hx hb dX6_codesTold_42 (by decide) ?_
  refine m_putI S hK hM hS 94 (Nat.le_of_ble_eq_true rfl) rfl q1826 rfl (ty := .int) rfl rfl rfl dX6_codesTold_43 (fun H locs hM hS => ?_)
  refine lv_aload_n hx hb dX6_codesTold_46 rfl (lv_at hl 0 rfl) ?_
  refine lv_iconst (v := (0 : Int32)) hx hb dX6_codesTold_47 (by decide) ?_
  refine m_putI S hK hM hS 95 (Nat.le_of_ble_eq_true rfl) rfl q1827 rfl (ty := .int) rfl rfl rfl dX6_codesTold_48 (fun H locs hM hS => ?_)
  refine lv_aload_n hx hb dX6_codesTold_51 rfl (lv_at hl 0 rfl) ?_
  refine lv_iconst (v := (0 : Int32)) hx hb dX6_codesTold_52 (by decide) ?_
  refine m_putI S hK hM hS 96 (Nat.le_of_ble_eq_true rfl) rfl q1828 rfl (ty := .int) rfl rfl rfl dX6_codesTold_53 (fun H locs hM hS => ?_)
  refine lv_iload_n hx hb dX6_codesTold_56 rfl (lv_at hl 1 rfl) ?_
  refine lv_iconst (v := (2 : Int32)) hx hb dX6_codesTold_57 (by decide) ?_
  refine lv_icmp_ne (tgt := 68) hx hb dX6_codesTold_58 (by decide) (fun c2 => ?_) (fun c2 => ?_)
  · replace h := ie c2 h
    refine lv_aload_n hx hb dX6_codesTold_68 rfl (lv_at hl 0 rfl) ?_
    replace h := ob h
    obtain ⟨x3, hx3, h⟩ := h
    refine kX6_qSums S hK hM hS hx3 ⟨Nat.le_of_ble_eq_true rfl, Nat.le_of_ble_eq_true rfl⟩ hl.1 (Nat.le_of_ble_eq_true rfl) dX6_codesTold_69 (fun H locs hM hS => ?_)
    exact wX6_codesTold_72 S hr hlk hK x3 a1 h _ _ hM hS _ (lv_sub hl [0, 1] rfl)
  replace h := it c2 h
  refine lv_aload_n hx hb dX6_codesTold_61 rfl (lv_at hl 0 rfl) ?_
  replace h := ob h
  obtain ⟨x4, hx4, h⟩ := h
  refine kX6_qTest S hK hM hS hx4 ⟨Nat.le_of_ble_eq_true rfl, Nat.le_of_ble_eq_true rfl⟩ hl.1 (Nat.le_of_ble_eq_true rfl) dX6_codesTold_62 (fun H locs hM hS => ?_)
  refine lv_goto (tgt := 72) hx hb dX6_codesTold_65 (by decide) ?_
  exact wX6_codesTold_72 S hr hlk hK x4 a1 h _ _ hM hS _ (lv_sub hl [0, 1] rfl)
set_option maxHeartbeats 4000000 in
theorem metX6_codesTold {l : Launch} {G : mG} {b : Nat} {σ : MS} {a1 : Int32} {a2 : Int32} {x : MS} (h : fX6_codesTold σ a1 a2 = some x) : Met l yX6_codesTold (ws_ yX6_codesTold cX6_codesTold 4 (none)) rmX6_codesTold (mP G b σ [.ref b, .int a1, .int a2]) (mQv G b x) 0 0 (mB b) := by
  refine m_entry (by decide) rfl (Nat.le_of_ble_eq_true rfl) ?_
  intro p e s m below meth c S hr hlk hK hM hS ls hl
  replace hl : lv_has ls 4 [(0, .ref b), (1, .int a1), (2, .int a2)] := hl
  obtain ⟨hx, hb, hml, hown, hts⟩ := id S
  unfold fX6_codesTold at h
  refine lv_aload_n hx hb dX6_codesTold_0 rfl (lv_at hl 0 rfl) ?_
  refine m_get S hK hM 5 (Nat.le_of_ble_eq_true rfl) q1737 (v := .int (σ.1 5)) rfl dX6_codesTold_1 ?_
  refine lv_if_ne (tgt := 23) hx hb dX6_codesTold_4 (by decide) (fun c1 => ?_) (fun c1 => ?_)
  · replace h := ie c1 h
    exact wX6_codesTold_23 S hr hlk hK σ a1 h _ _ hM hS _ (lv_sub hl [0, 1] rfl)
  replace h := it c1 h
  refine lv_aload_n hx hb dX6_codesTold_7 rfl (lv_at hl 0 rfl) ?_
  refine m_get S hK hM 48 (Nat.le_of_ble_eq_true rfl) q1780 (v := .ref (ma b 48)) rfl dX6_codesTold_8 ?_
  refine lv_iload_n hx hb dX6_codesTold_11 rfl (lv_at hl 1 rfl) ?_
  replace h := ob h
  obtain ⟨v2, hv2, h⟩ := h
  refine m_iald S hK hM 48 rfl hv2 dX6_codesTold_12 ?_
  refine lv_iconst (v := (-1 : Int32)) hx hb dX6_codesTold_13 (by decide) ?_
  refine lv_icmp_eq (tgt := 23) hx hb dX6_codesTold_14 (by decide) (fun c3 => ?_) (fun c3 => ?_)
  · replace h := it c3 h
    exact wX6_codesTold_23 S hr hlk hK σ a1 h _ _ hM hS _ (lv_sub hl [0, 1] rfl)
  replace h := ie c3 h
  refine lv_aload_n hx hb dX6_codesTold_17 rfl (lv_at hl 0 rfl) ?_
  refine lv_iconst (v := (5 : Int32)) hx hb dX6_codesTold_18 (by decide) ?_
  refine lv_iload_n hx hb dX6_codesTold_19 rfl (lv_at hl 2 rfl) ?_
  replace h := ob h
  obtain ⟨x4, hx4, h⟩ := h
  refine kX6_fail S hK hM hS hx4 ⟨Nat.le_of_ble_eq_true rfl, Nat.le_of_ble_eq_true rfl⟩ hl.1 (Nat.le_of_ble_eq_true rfl) dX6_codesTold_20 (fun H locs hM hS => ?_)
  exact wX6_codesTold_23 S hr hlk hK x4 a1 h _ _ hM hS _ (lv_sub hl [0, 1] rfl)
theorem kX6_codesTold {p : Program} {l : Launch} {e : Env} {R : Room} {s : State} {m : MethodId} {args : Array Value} {below : List Frame} {meth : Method} {c : Code} {H H0 : Heap} {locs : List Loc} {Q : State → Prop} {cc : ByteArray} {nL pc : Nat} {ls : Array Slot} {rest : List Value} {G : mG} {b : Nat} {σ : MS} {a1 : Int32} {a2 : Int32} {x : MS} (S : CallFix p m c cc nL s args lw_all RX6) (hK : mK G s) (hM : MW G b σ H) (hS : va_S (mB b) H0 H locs) (hf : fX6_codesTold σ a1 a2 = some x) (hR : rmX6_codesTold.frames + 1 ≤ R.frames ∧ 8 + (4 + 11) + rmX6_codesTold.locals ≤ R.locals) (hsize : ls.size = nL) (hr : (rest.map fun v => v.category).sum ≤ 8) (hdg : decode cc pc = .ok (.invokevirtual 378, 3)) (kk : ∀ (H1 : Heap) (locs1 : List Loc), MW G b x H1 → va_S (mB b) H0 H1 locs1 → W p l e R s m args below meth c H1 locs1 0 0 Q (F0 m (pc + 3) ls (rest))) : W p l e R s m args below meth c H locs 0 0 Q (F0 m pc ls (.int a2 :: .int a1 :: .ref b :: rest)) :=
  m_cVv (As := [.int a1, .int a2]) S hK hM hS (metX6_codesTold hf) (cwV 2 S.2.2.2.2 (lw_V q2141 q2143 qs84 q179 q2144) rfl rfl rfl (by decide +kernel) hR) ⟨Nat.zero_le _, Nat.zero_le _⟩ rfl hsize rfl hr hdg kk
/-! adds(IJ)V -/
abbrev rmX6_adds : Room := { frames := 1, cells := 0, slots := 0, locals := 0 }
def fX6_adds (σ : MS) (a1 : Int32) (a2 : Int64) : Option (MS) :=
  (aI σ 40 a1).bind fun v1 =>
  (tL σ 41 (((8 : Int32) * a1) + v1) a2).bind fun σ2 =>
  (aI σ2 40 a1).bind fun v3 =>
  (tI σ2 40 a1 (v3 + (1 : Int32))).bind fun σ4 =>
  some σ4
set_option maxHeartbeats 4000000 in
theorem metX6_adds {l : Launch} {G : mG} {b : Nat} {σ : MS} {a1 : Int32} {a2 : Int64} {x : MS} (h : fX6_adds σ a1 a2 = some x) : Met l yX6_adds (ws_ yX6_adds cX6_adds 4 (none)) rmX6_adds (mP G b σ [.ref b, .int a1, .long a2]) (mQv G b x) 0 0 (mB b) := by
  refine m_entry (by decide) rfl (Nat.le_of_ble_eq_true rfl) ?_
  intro p e s m below meth c S hr hlk hK hM hS ls hl
  replace hl : lv_has ls 4 [(0, .ref b), (1, .int a1), (2, .long a2)] := hl
  obtain ⟨hx, hb, hml, hown, hts⟩ := id S
  unfold fX6_adds at h
  refine lv_aload_n hx hb dX6_adds_0 rfl (lv_at hl 0 rfl) ?_
  refine m_get S hK hM 41 (Nat.le_of_ble_eq_true rfl) q1773 (v := .ref (ma b 41)) rfl dX6_adds_1 ?_
  refine lv_bipush (v := (8 : Int32)) hx hb dX6_adds_4 (by decide) ?_
  refine lv_iload_n hx hb dX6_adds_6 rfl (lv_at hl 1 rfl) ?_
  refine lv_imul hx hb dX6_adds_7 ?_
  refine lv_aload_n hx hb dX6_adds_8 rfl (lv_at hl 0 rfl) ?_
  refine m_get S hK hM 40 (Nat.le_of_ble_eq_true rfl) q1772 (v := .ref (ma b 40)) rfl dX6_adds_9 ?_
  refine lv_iload_n hx hb dX6_adds_12 rfl (lv_at hl 1 rfl) ?_
  replace h := ob h
  obtain ⟨v1, hv1, h⟩ := h
  refine m_iald S hK hM 40 rfl hv1 dX6_adds_13 ?_
  refine lv_iadd hx hb dX6_adds_14 ?_
  refine lv_lload_n hx hb dX6_adds_15 rfl (lv_at hl 2 rfl) ?_
  replace h := ob h
  obtain ⟨σ2, hσ2, h⟩ := h
  refine m_last S hK hM hS 41 rfl hσ2 dX6_adds_16 (fun H locs hM hS => ?_)
  refine lv_aload_n hx hb dX6_adds_17 rfl (lv_at hl 0 rfl) ?_
  refine m_get S hK hM 40 (Nat.le_of_ble_eq_true rfl) q1772 (v := .ref (ma b 40)) rfl dX6_adds_18 ?_
  refine lv_iload_n hx hb dX6_adds_21 rfl (lv_at hl 1 rfl) ?_
  refine lv_dup2_11 hx hb dX6_adds_22 rfl rfl ?_
  replace h := ob h
  obtain ⟨v3, hv3, h⟩ := h
  refine m_iald S hK hM 40 rfl hv3 dX6_adds_23 ?_
  refine lv_iconst (v := (1 : Int32)) hx hb dX6_adds_24 (by decide) ?_
  refine lv_iadd hx hb dX6_adds_25 ?_
  replace h := ob h
  obtain ⟨σ4, hσ4, h⟩ := h
  refine m_iast S hK hM hS 40 rfl hσ4 dX6_adds_26 (fun H locs hM hS => ?_)
  exact m_vret S hr hlk hM hS h dX6_adds_27
theorem kX6_adds {p : Program} {l : Launch} {e : Env} {R : Room} {s : State} {m : MethodId} {args : Array Value} {below : List Frame} {meth : Method} {c : Code} {H H0 : Heap} {locs : List Loc} {Q : State → Prop} {cc : ByteArray} {nL pc : Nat} {ls : Array Slot} {rest : List Value} {G : mG} {b : Nat} {σ : MS} {a1 : Int32} {a2 : Int64} {x : MS} (S : CallFix p m c cc nL s args lw_all RX6) (hK : mK G s) (hM : MW G b σ H) (hS : va_S (mB b) H0 H locs) (hf : fX6_adds σ a1 a2 = some x) (hR : rmX6_adds.frames + 1 ≤ R.frames ∧ 8 + (4 + 11) + rmX6_adds.locals ≤ R.locals) (hsize : ls.size = nL) (hr : (rest.map fun v => v.category).sum ≤ 8) (hdg : decode cc pc = .ok (.invokevirtual 319, 3)) (kk : ∀ (H1 : Heap) (locs1 : List Loc), MW G b x H1 → va_S (mB b) H0 H1 locs1 → W p l e R s m args below meth c H1 locs1 0 0 Q (F0 m (pc + 3) ls (rest))) : W p l e R s m args below meth c H locs 0 0 Q (F0 m pc ls (.long a2 :: .int a1 :: .ref b :: rest)) :=
  m_cVv (As := [.int a1, .long a2]) S hK hM hS (metX6_adds hf) (cwV 2 S.2.2.2.2 (lw_V q2103 q2105 qs76 q179 q2106) rfl rfl rfl (by decide +kernel) hR) ⟨Nat.zero_le _, Nat.zero_le _⟩ rfl hsize rfl hr hdg kk

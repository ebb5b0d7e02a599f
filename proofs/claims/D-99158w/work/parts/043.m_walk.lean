set_option maxRecDepth 100000
/-! isFull(III)Z -/
abbrev rmX6_isFull : Room := { frames := 2, cells := 0, slots := 0, locals := 22 }
def fX6_isFull_23 (σ : MS) : Option (MS × Int32) :=
  if (σ.1 5) = 0 then
    some (σ, (0 : Int32))
  else
  some (σ, (1 : Int32))
def fX6_isFull (σ : MS) (a1 : Int32) (a2 : Int32) (a3 : Int32) : Option (MS × Int32) :=
  if (σ.1 5) = 0 then
    (aI σ 40 a1).bind fun v2 =>
    if v2 = a2 then
      (fX6_fail σ (5 : Int32) a3).bind fun x4 =>
      fX6_isFull_23 x4
    else
    fX6_isFull_23 σ
  else
  fX6_isFull_23 σ
set_option maxHeartbeats 4000000 in
theorem wX6_isFull_23 {p : Program} {l : Launch} {e : Env} {s : State} {m : MethodId} {args : Array Value} {below : List Frame} {meth : Method} {c : Code} {G : mG} {b : Nat} (S : CallFix p m c cX6_isFull 4 s args lw_all RX6) (hr : meth.sig.returnType = some .boolean) (hlk : meth.locks = false) (hK : mK G s) {x : MS × Int32} : ∀ (σ : MS), fX6_isFull_23 σ = some x → mGo p l e rmX6_isFull s m args below meth c G b (MQ below (mQi G b x) args s 0 0 (mB b)) 4 23 [(0, .ref b)] [] σ := by
  obtain ⟨hx, hb, hml, hown, hts⟩ := id S
  intro σ h H locs hM hS ls hl
  unfold fX6_isFull_23 at h
  refine lv_aload_n hx hb dX6_isFull_23 rfl (lv_at hl 0 rfl) ?_
  refine m_get S hK hM 5 (Nat.le_of_ble_eq_true rfl) q1737 (v := .int (σ.1 5)) rfl dX6_isFull_24 ?_
  refine lv_if_eq (tgt := 34) hx hb dX6_isFull_27 (by decide) (fun c1 => ?_) (fun c1 => ?_)
  · replace h := it c1 h
    refine lv_iconst (v := (0 : Int32)) hx hb dX6_isFull_34 (by decide) ?_
    exact m_iret S hr hlk rfl hM hS h dX6_isFull_35
  replace h := ie c1 h
  refine lv_iconst (v := (1 : Int32)) hx hb dX6_isFull_30 (by decide) ?_
  refine lv_goto (tgt := 35) hx hb dX6_isFull_31 (by decide) ?_
  exact m_iret S hr hlk rfl hM hS h dX6_isFull_35
set_option maxHeartbeats 4000000 in
theorem metX6_isFull {l : Launch} {G : mG} {b : Nat} {σ : MS} {a1 : Int32} {a2 : Int32} {a3 : Int32} {x : MS × Int32} (h : fX6_isFull σ a1 a2 a3 = some x) : Met l yX6_isFull (ws_ yX6_isFull cX6_isFull 4 (some .boolean)) rmX6_isFull (mP G b σ [.ref b, .int a1, .int a2, .int a3]) (mQi G b x) 0 0 (mB b) := by
  refine m_entry (by decide) rfl (Nat.le_of_ble_eq_true rfl) ?_
  intro p e s m below meth c S hr hlk hK hM hS ls hl
  replace hl : lv_has ls 4 [(0, .ref b), (1, .int a1), (2, .int a2), (3, .int a3)] := hl
  obtain ⟨hx, hb, hml, hown, hts⟩ := id S
  unfold fX6_isFull at h
  refine lv_aload_n hx hb dX6_isFull_0 rfl (lv_at hl 0 rfl) ?_
  refine m_get S hK hM 5 (Nat.le_of_ble_eq_true rfl) q1737 (v := .int (σ.1 5)) rfl dX6_isFull_1 ?_
  refine lv_if_ne (tgt := 23) hx hb dX6_isFull_4 (by decide) (fun c1 => ?_) (fun c1 => ?_)
  · replace h := ie c1 h
    exact wX6_isFull_23 S hr hlk hK σ h _ _ hM hS _ (lv_sub hl [0] rfl)
  replace h := it c1 h
  refine lv_aload_n hx hb dX6_isFull_7 rfl (lv_at hl 0 rfl) ?_
  refine m_get S hK hM 40 (Nat.le_of_ble_eq_true rfl) q1772 (v := .ref (ma b 40)) rfl dX6_isFull_8 ?_
  refine lv_iload_n hx hb dX6_isFull_11 rfl (lv_at hl 1 rfl) ?_
  replace h := ob h
  obtain ⟨v2, hv2, h⟩ := h
  refine m_iald S hK hM 40 rfl hv2 dX6_isFull_12 ?_
  refine lv_iload_n hx hb dX6_isFull_13 rfl (lv_at hl 2 rfl) ?_
  refine lv_icmp_ne (tgt := 23) hx hb dX6_isFull_14 (by decide) (fun c3 => ?_) (fun c3 => ?_)
  · replace h := ie c3 h
    exact wX6_isFull_23 S hr hlk hK σ h _ _ hM hS _ (lv_sub hl [0] rfl)
  replace h := it c3 h
  refine lv_aload_n hx hb dX6_isFull_17 rfl (lv_at hl 0 rfl) ?_
  refine lv_iconst (v := (5 : Int32)) hx hb dX6_isFull_18 (by decide) ?_
  refine lv_iload_n hx hb dX6_isFull_19 rfl (lv_at hl 3 rfl) ?_
  replace h := ob h
  obtain ⟨x4, hx4, h⟩ := h
  refine kX6_fail S hK hM hS hx4 ⟨Nat.le_of_ble_eq_true rfl, Nat.le_of_ble_eq_true rfl⟩ hl.1 (Nat.le_of_ble_eq_true rfl) dX6_isFull_20 (fun H locs hM hS => ?_)
  exact wX6_isFull_23 S hr hlk hK x4 h _ _ hM hS _ (lv_sub hl [0] rfl)
theorem kX6_isFull {p : Program} {l : Launch} {e : Env} {R : Room} {s : State} {m : MethodId} {args : Array Value} {below : List Frame} {meth : Method} {c : Code} {H H0 : Heap} {locs : List Loc} {Q : State → Prop} {cc : ByteArray} {nL pc : Nat} {ls : Array Slot} {rest : List Value} {G : mG} {b : Nat} {σ : MS} {a1 : Int32} {a2 : Int32} {a3 : Int32} {x : MS × Int32} (S : CallFix p m c cc nL s args lw_all RX6) (hK : mK G s) (hM : MW G b σ H) (hS : va_S (mB b) H0 H locs) (hf : fX6_isFull σ a1 a2 a3 = some x) (hR : rmX6_isFull.frames + 1 ≤ R.frames ∧ 8 + (4 + 11) + rmX6_isFull.locals ≤ R.locals) (hsize : ls.size = nL) (hr : (rest.map fun v => v.category).sum ≤ 8) (hdg : decode cc pc = .ok (.invokevirtual 312, 3)) (kk : ∀ (H1 : Heap) (locs1 : List Loc), MW G b x.1 H1 → va_S (mB b) H0 H1 locs1 → W p l e R s m args below meth c H1 locs1 0 0 Q (F0 m (pc + 3) ls (.int x.2 :: rest))) : W p l e R s m args below meth c H locs 0 0 Q (F0 m pc ls (.int a3 :: .int a2 :: .int a1 :: .ref b :: rest)) :=
  m_cVi (As := [.int a1, .int a2, .int a3]) S hK hM hS (metX6_isFull hf) (cwV 3 S.2.2.2.2 (lw_V q2081 q2083 qs71 q179 q2084) rfl rfl rfl (by decide +kernel) hR) ⟨Nat.zero_le _, Nat.zero_le _⟩ rfl hsize rfl hr hdg kk
/-! isOwnHere()Z -/
abbrev rmX6_isOwnHere : Room := { frames := 3, cells := 0, slots := 0, locals := 43 }
def fX6_isOwnHere_364 (σ : MS) (t0 : Int32) : Option (MS × Int32) :=
  (zr t0).bind fun z1 =>
  some (σ, t0)
def fX6_isOwnHere_359 (σ : MS) : Option (MS × Int32) :=
  fX6_isOwnHere_364 σ (1 : Int32)
def fX6_isOwnHere_299 (σ : MS) (t0 : Int32) : Option (MS × Int32) :=
  if t0 = 0 then
    (fX6_isHere σ 34).bind fun x2 =>
    if x2.2 = 0 then
      (fX6_isHere x2.1 35).bind fun x4 =>
      if x4.2 = 0 then
        (fX6_isHere x4.1 36).bind fun x6 =>
        if x6.2 = 0 then
          (fX6_isHere x6.1 37).bind fun x8 =>
          if x8.2 = 0 then
            (fX6_isHere x8.1 38).bind fun x10 =>
            if x10.2 = 0 then
              fX6_isOwnHere_364 x10.1 (0 : Int32)
            else
            fX6_isOwnHere_359 x10.1
          else
          fX6_isOwnHere_359 x8.1
        else
        fX6_isOwnHere_359 x6.1
      else
      fX6_isOwnHere_359 x4.1
    else
    fX6_isOwnHere_359 x2.1
  else
  fX6_isOwnHere_359 σ
def fX6_isOwnHere_294 (σ : MS) : Option (MS × Int32) :=
  fX6_isOwnHere_299 σ (1 : Int32)
def fX6_isOwnHere_223 (σ : MS) (t0 : Int32) : Option (MS × Int32) :=
  if t0 = 0 then
    (fX6_isHere σ 28).bind fun x2 =>
    if x2.2 = 0 then
      (fX6_isHere x2.1 29).bind fun x4 =>
      if x4.2 = 0 then
        (fX6_isHere x4.1 30).bind fun x6 =>
        if x6.2 = 0 then
          (fX6_isHere x6.1 31).bind fun x8 =>
          if x8.2 = 0 then
            (fX6_isHere x8.1 32).bind fun x10 =>
            if x10.2 = 0 then
              (fX6_isHere x10.1 33).bind fun x12 =>
              if x12.2 = 0 then
                fX6_isOwnHere_299 x12.1 (0 : Int32)
              else
              fX6_isOwnHere_294 x12.1
            else
            fX6_isOwnHere_294 x10.1
          else
          fX6_isOwnHere_294 x8.1
        else
        fX6_isOwnHere_294 x6.1
      else
      fX6_isOwnHere_294 x4.1
    else
    fX6_isOwnHere_294 x2.1
  else
  fX6_isOwnHere_294 σ
def fX6_isOwnHere_218 (σ : MS) : Option (MS × Int32) :=
  fX6_isOwnHere_223 σ (1 : Int32)
def fX6_isOwnHere_147 (σ : MS) (t0 : Int32) : Option (MS × Int32) :=
  if t0 = 0 then
    (fX6_isHere σ 22).bind fun x2 =>
    if x2.2 = 0 then
      (fX6_isHere x2.1 23).bind fun x4 =>
      if x4.2 = 0 then
        (fX6_isHere x4.1 24).bind fun x6 =>
        if x6.2 = 0 then
          (fX6_isHere x6.1 25).bind fun x8 =>
          if x8.2 = 0 then
            (fX6_isHere x8.1 26).bind fun x10 =>
            if x10.2 = 0 then
              (fX6_isHere x10.1 27).bind fun x12 =>
              if x12.2 = 0 then
                fX6_isOwnHere_223 x12.1 (0 : Int32)
              else
              fX6_isOwnHere_218 x12.1
            else
            fX6_isOwnHere_218 x10.1
          else
          fX6_isOwnHere_218 x8.1
        else
        fX6_isOwnHere_218 x6.1
      else
      fX6_isOwnHere_218 x4.1
    else
    fX6_isOwnHere_218 x2.1
  else
  fX6_isOwnHere_218 σ
def fX6_isOwnHere_142 (σ : MS) : Option (MS × Int32) :=
  fX6_isOwnHere_147 σ (1 : Int32)
def fX6_isOwnHere_71 (σ : MS) (t0 : Int32) : Option (MS × Int32) :=
  if t0 = 0 then
    (fX6_isHere σ 16).bind fun x2 =>
    if x2.2 = 0 then
      (fX6_isHere x2.1 17).bind fun x4 =>
      if x4.2 = 0 then
        (fX6_isHere x4.1 18).bind fun x6 =>
        if x6.2 = 0 then
          (fX6_isHere x6.1 19).bind fun x8 =>
          if x8.2 = 0 then
            (fX6_isHere x8.1 20).bind fun x10 =>
            if x10.2 = 0 then
              (fX6_isHere x10.1 21).bind fun x12 =>
              if x12.2 = 0 then
                fX6_isOwnHere_147 x12.1 (0 : Int32)
              else
              fX6_isOwnHere_142 x12.1
            else
            fX6_isOwnHere_142 x10.1
          else
          fX6_isOwnHere_142 x8.1
        else
        fX6_isOwnHere_142 x6.1
      else
      fX6_isOwnHere_142 x4.1
    else
    fX6_isOwnHere_142 x2.1
  else
  fX6_isOwnHere_142 σ
def fX6_isOwnHere_66 (σ : MS) : Option (MS × Int32) :=
  fX6_isOwnHere_71 σ (1 : Int32)
def fX6_isOwnHere (σ : MS) : Option (MS × Int32) :=
  (fX6_isHere σ 10).bind fun x1 =>
  if x1.2 = 0 then
    (fX6_isHere x1.1 11).bind fun x3 =>
    if x3.2 = 0 then
      (fX6_isHere x3.1 12).bind fun x5 =>
      if x5.2 = 0 then
        (fX6_isHere x5.1 13).bind fun x7 =>
        if x7.2 = 0 then
          (fX6_isHere x7.1 14).bind fun x9 =>
          if x9.2 = 0 then
            (fX6_isHere x9.1 15).bind fun x11 =>
            if x11.2 = 0 then
              fX6_isOwnHere_71 x11.1 (0 : Int32)
            else
            fX6_isOwnHere_66 x11.1
          else
          fX6_isOwnHere_66 x9.1
        else
        fX6_isOwnHere_66 x7.1
      else
      fX6_isOwnHere_66 x5.1
    else
    fX6_isOwnHere_66 x3.1
  else
  fX6_isOwnHere_66 x1.1
set_option maxHeartbeats 4000000 in
theorem wX6_isOwnHere_364 {p : Program} {l : Launch} {e : Env} {s : State} {m : MethodId} {args : Array Value} {below : List Frame} {meth : Method} {c : Code} {G : mG} {b : Nat} (S : CallFix p m c cX6_isOwnHere 2 s args lw_all RX6) (hr : meth.sig.returnType = some .boolean) (hlk : meth.locks = false) (hK : mK G s) {x : MS × Int32} : ∀ (σ : MS) (t0 : Int32), fX6_isOwnHere_364 σ t0 = some x → mGo p l e rmX6_isOwnHere s m args below meth c G b (MQ below (mQi G b x) args s 0 0 (mB b)) 2 364 [(0, .ref b)] [.int t0] σ := by
  obtain ⟨hx, hb, hml, hown, hts⟩ := id S
  intro σ t0 h H locs hM hS ls hl
  unfold fX6_isOwnHere_364 at h
  refine lv_istore_n (lv' := [(1, .int t0), (0, .ref b)]) hx hb dX6_isOwnHere_364 rfl hl (by decide) rfl (fun ls hl => ?_)
  refine lv_iload_n hx hb dX6_isOwnHere_365 rfl (lv_at hl 0 rfl) ?_
  replace h := ob h
  obtain ⟨z1, hz1, h⟩ := h
  obtain ⟨hz1a, -, -⟩ := zr_e hz1
  exact m_iret S hr hlk hz1a hM hS h dX6_isOwnHere_366
set_option maxHeartbeats 4000000 in
theorem wX6_isOwnHere_359 {p : Program} {l : Launch} {e : Env} {s : State} {m : MethodId} {args : Array Value} {below : List Frame} {meth : Method} {c : Code} {G : mG} {b : Nat} (S : CallFix p m c cX6_isOwnHere 2 s args lw_all RX6) (hr : meth.sig.returnType = some .boolean) (hlk : meth.locks = false) (hK : mK G s) {x : MS × Int32} : ∀ (σ : MS), fX6_isOwnHere_359 σ = some x → mGo p l e rmX6_isOwnHere s m args below meth c G b (MQ below (mQi G b x) args s 0 0 (mB b)) 2 359 [(0, .ref b)] [] σ := by
  obtain ⟨hx, hb, hml, hown, hts⟩ := id S
  intro σ h H locs hM hS ls hl
  unfold fX6_isOwnHere_359 at h
  refine lv_iconst (v := (1 : Int32)) hx hb dX6_isOwnHere_359 (by decide) ?_
  refine lv_goto (tgt := 364) hx hb dX6_isOwnHere_360 (by decide) ?_
  exact wX6_isOwnHere_364 S hr hlk hK σ (1 : Int32) h _ _ hM hS _ (lv_sub hl [0] rfl)
set_option maxHeartbeats 4000000 in
theorem wX6_isOwnHere_299 {p : Program} {l : Launch} {e : Env} {s : State} {m : MethodId} {args : Array Value} {below : List Frame} {meth : Method} {c : Code} {G : mG} {b : Nat} (S : CallFix p m c cX6_isOwnHere 2 s args lw_all RX6) (hr : meth.sig.returnType = some .boolean) (hlk : meth.locks = false) (hK : mK G s) {x : MS × Int32} : ∀ (σ : MS) (t0 : Int32), fX6_isOwnHere_299 σ t0 = some x → mGo p l e rmX6_isOwnHere s m args below meth c G b (MQ below (mQi G b x) args s 0 0 (mB b)) 2 299 [(0, .ref b)] [.int t0] σ := by
  obtain ⟨hx, hb, hml, hown, hts⟩ := id S
  intro σ t0 h H locs hM hS ls hl
  unfold fX6_isOwnHere_299 at h
  refine lv_istore_n (lv' := [(1, .int t0), (0, .ref b)]) hx hb dX6_isOwnHere_299 rfl hl (by decide) rfl (fun ls hl => ?_)
  refine lv_iload_n hx hb dX6_isOwnHere_300 rfl (lv_at hl 0 rfl) ?_
  refine lv_if_ne (tgt := 359) hx hb dX6_isOwnHere_301 (by decide) (fun c1 => ?_) (fun c1 => ?_)
  · replace h := ie c1 h
    exact wX6_isOwnHere_359 S hr hlk hK σ h _ _ hM hS _ (lv_sub hl [1] rfl)
  replace h := it c1 h
  refine lv_aload_n hx hb dX6_isOwnHere_304 rfl (lv_at hl 1 rfl) ?_
  refine lv_aload_n hx hb dX6_isOwnHere_305 rfl (lv_at hl 1 rfl) ?_
  refine m_get S hK hM 34 (Nat.le_of_ble_eq_true rfl) q1766 (v := .ref (ma b 34)) rfl dX6_isOwnHere_306 ?_
  replace h := ob h
  obtain ⟨x2, hx2, h⟩ := h
  refine kX6_isHere S hK hM hS hx2 ⟨Nat.le_of_ble_eq_true rfl, Nat.le_of_ble_eq_true rfl⟩ hl.1 (Nat.le_of_ble_eq_true rfl) dX6_isOwnHere_309 (fun H locs hM hS => ?_)
  refine lv_if_ne (tgt := 359) hx hb dX6_isOwnHere_312 (by decide) (fun c3 => ?_) (fun c3 => ?_)
  · replace h := ie c3 h
    exact wX6_isOwnHere_359 S hr hlk hK x2.1 h _ _ hM hS _ (lv_sub hl [1] rfl)
  replace h := it c3 h
  refine lv_aload_n hx hb dX6_isOwnHere_315 rfl (lv_at hl 1 rfl) ?_
  refine lv_aload_n hx hb dX6_isOwnHere_316 rfl (lv_at hl 1 rfl) ?_
  refine m_get S hK hM 35 (Nat.le_of_ble_eq_true rfl) q1767 (v := .ref (ma b 35)) rfl dX6_isOwnHere_317 ?_
  replace h := ob h
  obtain ⟨x4, hx4, h⟩ := h
  refine kX6_isHere S hK hM hS hx4 ⟨Nat.le_of_ble_eq_true rfl, Nat.le_of_ble_eq_true rfl⟩ hl.1 (Nat.le_of_ble_eq_true rfl) dX6_isOwnHere_320 (fun H locs hM hS => ?_)
  refine lv_if_ne (tgt := 359) hx hb dX6_isOwnHere_323 (by decide) (fun c5 => ?_) (fun c5 => ?_)
  · replace h := ie c5 h
    exact wX6_isOwnHere_359 S hr hlk hK x4.1 h _ _ hM hS _ (lv_sub hl [1] rfl)
  replace h := it c5 h
  refine lv_aload_n hx hb dX6_isOwnHere_326 rfl (lv_at hl 1 rfl) ?_
  refine lv_aload_n hx hb dX6_isOwnHere_327 rfl (lv_at hl 1 rfl) ?_
  refine m_get S hK hM 36 (Nat.le_of_ble_eq_true rfl) q1768 (v := .ref (ma b 36)) rfl dX6_isOwnHere_328 ?_
  replace h := ob h
  obtain ⟨x6, hx6, h⟩ := h
  refine kX6_isHere S hK hM hS hx6 ⟨Nat.le_of_ble_eq_true rfl, Nat.le_of_ble_eq_true rfl⟩ hl.1 (Nat.le_of_ble_eq_true rfl) dX6_isOwnHere_331 (fun H locs hM hS => ?_)
  refine lv_if_ne (tgt := 359) hx hb dX6_isOwnHere_334 (by decide) (fun c7 => ?_) (fun c7 => ?_)
  · replace h := ie c7 h
    exact wX6_isOwnHere_359 S hr hlk hK x6.1 h _ _ hM hS _ (lv_sub hl [1] rfl)
  replace h := it c7 h
  refine lv_aload_n hx hb dX6_isOwnHere_337 rfl (lv_at hl 1 rfl) ?_
  refine lv_aload_n hx hb dX6_isOwnHere_338 rfl (lv_at hl 1 rfl) ?_
  refine m_get S hK hM 37 (Nat.le_of_ble_eq_true rfl) q1769 (v := .ref (ma b 37)) rfl dX6_isOwnHere_339 ?_
  replace h := ob h
  obtain ⟨x8, hx8, h⟩ := h
  refine kX6_isHere S hK hM hS hx8 ⟨Nat.le_of_ble_eq_true rfl, Nat.le_of_ble_eq_true rfl⟩ hl.1 (Nat.le_of_ble_eq_true rfl) dX6_isOwnHere_342 (fun H locs hM hS => ?_)
  refine lv_if_ne (tgt := 359) hx hb dX6_isOwnHere_345 (by decide) (fun c9 => ?_) (fun c9 => ?_)
  · replace h := ie c9 h
    exact wX6_isOwnHere_359 S hr hlk hK x8.1 h _ _ hM hS _ (lv_sub hl [1] rfl)
  replace h := it c9 h
  refine lv_aload_n hx hb dX6_isOwnHere_348 rfl (lv_at hl 1 rfl) ?_
  refine lv_aload_n hx hb dX6_isOwnHere_349 rfl (lv_at hl 1 rfl) ?_
  refine m_get S hK hM 38 (Nat.le_of_ble_eq_true rfl) q1770 (v := .ref (ma b 38)) rfl dX6_isOwnHere_350 ?_
  replace h := ob h
  obtain ⟨x10, hx10, h⟩ := h
  refine kX6_isHere S hK hM hS hx10 ⟨Nat.le_of_ble_eq_true rfl, Nat.le_of_ble_eq_true rfl⟩ hl.1 (Nat.le_of_ble_eq_true rfl) dX6_isOwnHere_353 (fun H locs hM hS => ?_)
  refine lv_if_eq (tgt := 363) hx hb dX6_isOwnHere_356 (by decide) (fun c11 => ?_) (fun c11 => ?_)
  rotate_left 1
  · replace h := ie c11 h
    exact wX6_isOwnHere_359 S hr hlk hK x10.1 h _ _ hM hS _ (lv_sub hl [1] rfl)
  replace h := it c11 h
  refine lv_iconst (v := (0 : Int32)) hx hb dX6_isOwnHere_363 (by decide) ?_
  exact wX6_isOwnHere_364 S hr hlk hK x10.1 (0 : Int32) h _ _ hM hS _ (lv_sub hl [1] rfl)
set_option maxHeartbeats 4000000 in
theorem wX6_isOwnHere_294 {p : Program} {l : Launch} {e : Env} {s : State} {m : MethodId} {args : Array Value} {below : List Frame} {meth : Method} {c : Code} {G : mG} {b : Nat} (S : CallFix p m c cX6_isOwnHere 2 s args lw_all RX6) (hr : meth.sig.returnType = some .boolean) (hlk : meth.locks = false) (hK : mK G s) {x : MS × Int32} : ∀ (σ : MS), fX6_isOwnHere_294 σ = some x → mGo p l e rmX6_isOwnHere s m args below meth c G b (MQ below (mQi G b x) args s 0 0 (mB b)) 2 294 [(0, .ref b)] [] σ := by
  obtain ⟨hx, hb, hml, hown, hts⟩ := id S
  intro σ h H locs hM hS ls hl
  unfold fX6_isOwnHere_294 at h
  refine lv_iconst (v := (1 : Int32)) hx hb dX6_isOwnHere_294 (by decide) ?_
  refine lv_goto (tgt := 299) hx hb dX6_isOwnHere_295 (by decide) ?_
  exact wX6_isOwnHere_299 S hr hlk hK σ (1 : Int32) h _ _ hM hS _ (lv_sub hl [0] rfl)
set_option maxHeartbeats 4000000 in
theorem wX6_isOwnHere_223 {p : Program} {l : Launch} {e : Env} {s : State} {m : MethodId} {args : Array Value} {below : List Frame} {meth : Method} {c : Code} {G : mG} {b : Nat} (S : CallFix p m c cX6_isOwnHere 2 s args lw_all RX6) (hr : meth.sig.returnType = some .boolean) (hlk : meth.locks = false) (hK : mK G s) {x : MS × Int32} : ∀ (σ : MS) (t0 : Int32), fX6_isOwnHere_223 σ t0 = some x → mGo p l e rmX6_isOwnHere s m args below meth c G b (MQ below (mQi G b x) args s 0 0 (mB b)) 2 223 [(0, .ref b)] [.int t0] σ := by
  obtain ⟨hx, hb, hml, hown, hts⟩ := id S
  intro σ t0 h H locs hM hS ls hl
  unfold fX6_isOwnHere_223 at h
  refine lv_istore_n (lv' := [(1, .int t0), (0, .ref b)]) hx hb dX6_isOwnHere_223 rfl hl (by decide) rfl (fun ls hl => ?_)
  refine lv_iload_n hx hb dX6_isOwnHere_224 rfl (lv_at hl 0 rfl) ?_
  refine lv_if_ne (tgt := 294) hx hb dX6_isOwnHere_225 (by decide) (fun c1 => ?_) (fun c1 => ?_)
  · replace h := ie c1 h
    exact wX6_isOwnHere_294 S hr hlk hK σ h _ _ hM hS _ (lv_sub hl [1] rfl)
  replace h := it c1 h
  refine lv_aload_n hx hb dX6_isOwnHere_228 rfl (lv_at hl 1 rfl) ?_
  refine lv_aload_n hx hb dX6_isOwnHere_229 rfl (lv_at hl 1 rfl) ?_
  refine m_get S hK hM 28 (Nat.le_of_ble_eq_true rfl) q1760 (v := .ref (ma b 28)) rfl dX6_isOwnHere_230 ?_
  replace h := ob h
  obtain ⟨x2, hx2, h⟩ := h
  refine kX6_isHere S hK hM hS hx2 ⟨Nat.le_of_ble_eq_true rfl, Nat.le_of_ble_eq_true rfl⟩ hl.1 (Nat.le_of_ble_eq_true rfl) dX6_isOwnHere_233 (fun H locs hM hS => ?_)
  refine lv_if_ne (tgt := 294) hx hb dX6_isOwnHere_236 (by decide) (fun c3 => ?_) (fun c3 => ?_)
  · replace h := ie c3 h
    exact wX6_isOwnHere_294 S hr hlk hK x2.1 h _ _ hM hS _ (lv_sub hl [1] rfl)
  replace h := it c3 h
  refine lv_aload_n hx hb dX6_isOwnHere_239 rfl (lv_at hl 1 rfl) ?_
  refine lv_aload_n hx hb dX6_isOwnHere_240 rfl (lv_at hl 1 rfl) ?_
  refine m_get S hK hM 29 (Nat.le_of_ble_eq_true rfl) q1761 (v := .ref (ma b 29)) rfl dX6_isOwnHere_241 ?_
  replace h := ob h
  obtain ⟨x4, hx4, h⟩ := h
  refine kX6_isHere S hK hM hS hx4 ⟨Nat.le_of_ble_eq_true rfl, Nat.le_of_ble_eq_true rfl⟩ hl.1 (Nat.le_of_ble_eq_true rfl) dX6_isOwnHere_244 (fun H locs hM hS => ?_)
  refine lv_if_ne (tgt := 294) hx hb dX6_isOwnHere_247 (by decide) (fun c5 => ?_) (fun c5 => ?_)
  · replace h := ie c5 h
    exact wX6_isOwnHere_294 S hr hlk hK x4.1 h _ _ hM hS _ (lv_sub hl [1] rfl)
  replace h := it c5 h
  refine lv_aload_n hx hb dX6_isOwnHere_250 rfl (lv_at hl 1 rfl) ?_
  refine lv_aload_n hx hb dX6_isOwnHere_251 rfl (lv_at hl 1 rfl) ?_
  refine m_get S hK hM 30 (Nat.le_of_ble_eq_true rfl) q1762 (v := .ref (ma b 30)) rfl dX6_isOwnHere_252 ?_
  replace h := ob h
  obtain ⟨x6, hx6, h⟩ := h
  refine kX6_isHere S hK hM hS hx6 ⟨Nat.le_of_ble_eq_true rfl, Nat.le_of_ble_eq_true rfl⟩ hl.1 (Nat.le_of_ble_eq_true rfl) dX6_isOwnHere_255 (fun H locs hM hS => ?_)
  refine lv_if_ne (tgt := 294) hx hb dX6_isOwnHere_258 (by decide) (fun c7 => ?_) (fun c7 => ?_)
  · replace h := ie c7 h
    exact wX6_isOwnHere_294 S hr hlk hK x6.1 h _ _ hM hS _ (lv_sub hl [1] rfl)
  replace h := it c7 h
  refine lv_aload_n hx hb dX6_isOwnHere_261 rfl (lv_at hl 1 rfl) ?_
  refine lv_aload_n hx hb dX6_isOwnHere_262 rfl (lv_at hl 1 rfl) ?_
  refine m_get S hK hM 31 (Nat.le_of_ble_eq_true rfl) q1763 (v := .ref (ma b 31)) rfl dX6_isOwnHere_263 ?_
  replace h := ob h
  obtain ⟨x8, hx8, h⟩ := h
  refine kX6_isHere S hK hM hS hx8 ⟨Nat.le_of_ble_eq_true rfl, Nat.le_of_ble_eq_true rfl⟩ hl.1 (Nat.le_of_ble_eq_true rfl) dX6_isOwnHere_266 (fun H locs hM hS => ?_)
  refine lv_if_ne (tgt := 294) hx hb dX6_isOwnHere_269 (by decide) (fun c9 => ?_) (fun c9 => ?_)
  · replace h := ie c9 h
    exact wX6_isOwnHere_294 S hr hlk hK x8.1 h _ _ hM hS _ (lv_sub hl [1] rfl)
  replace h := it c9 h
  refine lv_aload_n hx hb dX6_isOwnHere_272 rfl (lv_at hl 1 rfl) ?_
  refine lv_aload_n hx hb dX6_isOwnHere_273 rfl (lv_at hl 1 rfl) ?_
  refine m_get S hK hM 32 (Nat.le_of_ble_eq_true rfl) q1764 (v := .ref (ma b 32)) rfl dX6_isOwnHere_274 ?_
  replace h := ob h
  obtain ⟨x10, hx10, h⟩ := h
  refine kX6_isHere S hK hM hS hx10 ⟨Nat.le_of_ble_eq_true rfl, Nat.le_of_ble_eq_true rfl⟩ hl.1 (Nat.le_of_ble_eq_true rfl) dX6_isOwnHere_277 (fun H locs hM hS => ?_)
  refine lv_if_ne (tgt := 294) hx hb dX6_isOwnHere_280 (by decide) (fun c11 => ?_) (fun c11 => ?_)
  · replace h := ie c11 h
    exact wX6_isOwnHere_294 S hr hlk hK x10.1 h _ _ hM hS _ (lv_sub hl [1] rfl)
  replace h := it c11 h
  refine lv_aload_n hx hb dX6_isOwnHere_283 rfl (lv_at hl 1 rfl) ?_
  refine lv_aload_n hx hb dX6_isOwnHere_284 rfl (lv_at hl 1 rfl) ?_
  refine m_get S hK hM 33 (Nat.le_of_ble_eq_true rfl) q1765 (v := .ref (ma b 33)) rfl dX6_isOwnHere_285 ?_
  replace h := ob h
  obtain ⟨x12, hx12, h⟩ := h
  refine kX6_isHere S hK hM hS hx12 ⟨Nat.le_of_ble_eq_true rfl, Nat.le_of_ble_eq_true rfl⟩ hl.1 (Nat.le_of_ble_eq_true rfl) dX6_isOwnHere_288 (fun H locs hM hS => ?_)
  refine lv_if_eq (tgt := 298) hx hb dX6_isOwnHere_291 (by decide) (fun c13 => ?_) (fun c13 => ?_)
  rotate_left 1
  · replace h := ie c13 h
    exact wX6_isOwnHere_294 S hr hlk hK x12.1 h _ _ hM hS _ (lv_sub hl [1] rfl)
  replace h := it c13 h
  refine lv_iconst (v := (0 : Int32)) hx hb dX6_isOwnHere_298 (by decide) ?_
  exact wX6_isOwnHere_299 S hr hlk hK x12.1 (0 : Int32) h _ _ hM hS _ (lv_sub hl [1] rfl)
set_option maxHeartbeats 4000000 in
theorem wX6_isOwnHere_218 {p : Program} {l : Launch} {e : Env} {s : State} {m : MethodId} {args : Array Value} {below : List Frame} {meth : Method} {c : Code} {G : mG} {b : Nat} (S : CallFix p m c cX6_isOwnHere 2 s args lw_all RX6) (hr : meth.sig.returnType = some .boolean) (hlk : meth.locks = false) (hK : mK G s) {x : MS × Int32} : ∀ (σ : MS), fX6_isOwnHere_218 σ = some x → mGo p l e rmX6_isOwnHere s m args below meth c G b (MQ below (mQi G b x) args s 0 0 (mB b)) 2 218 [(0, .ref b)] [] σ := by
  obtain ⟨hx, hb, hml, hown, hts⟩ := id S
  intro σ h H locs hM hS ls hl
  unfold fX6_isOwnHere_218 at h
  refine lv_iconst (v := (1 : Int32)) hx hb dX6_isOwnHere_218 (by decide) ?_
  refine lv_goto (tgt := 223) hx hb dX6_isOwnHere_219 (by decide) ?_
  exact wX6_isOwnHere_223 S hr hlk hK σ (1 : Int32) h _ _ hM hS _ (lv_sub hl [0] rfl)
set_option maxHeartbeats 4000000 in
theorem wX6_isOwnHere_147 {p : Program} {l : Launch} {e : Env} {s : State} {m : MethodId} {args : Array Value} {below : List Frame} {meth : Method} {c : Code} {G : mG} {b : Nat} (S : CallFix p m c cX6_isOwnHere 2 s args lw_all RX6) (hr : meth.sig.returnType = some .boolean) (hlk : meth.locks = false) (hK : mK G s) {x : MS × Int32} : ∀ (σ : MS) (t0 : Int32), fX6_isOwnHere_147 σ t0 = some x → mGo p l e rmX6_isOwnHere s m args below meth c G b (MQ below (mQi G b x) args s 0 0 (mB b)) 2 147 [(0, .ref b)] [.int t0] σ := by
  obtain ⟨hx, hb, hml, hown, hts⟩ := id S
  intro σ t0 h H locs hM hS ls hl
  unfold fX6_isOwnHere_147 at h
  refine lv_istore_n (lv' := [(1, .int t0), (0, .ref b)]) hx hb dX6_isOwnHere_147 rfl hl (by decide) rfl (fun ls hl => ?_)
  refine lv_iload_n hx hb dX6_isOwnHere_148 rfl (lv_at hl 0 rfl) ?_
  refine lv_if_ne (tgt := 218) hx hb dX6_isOwnHere_149 (by decide) (fun c1 => ?_) (fun c1 => ?_)
  · replace h := ie c1 h
    exact wX6_isOwnHere_218 S hr hlk hK σ h _ _ hM hS _ (lv_sub hl [1] rfl)
  replace h := it c1 h
  refine lv_aload_n hx hb dX6_isOwnHere_152 rfl (lv_at hl 1 rfl) ?_
  refine lv_aload_n hx hb dX6_isOwnHere_153 rfl (lv_at hl 1 rfl) ?_
  refine m_get S hK hM 22 (Nat.le_of_ble_eq_true rfl) q1754 (v := .ref (ma b 22)) rfl dX6_isOwnHere_154 ?_
  replace h := ob h
  obtain ⟨x2, hx2, h⟩ := h
  refine kX6_isHere S hK hM hS hx2 ⟨Nat.le_of_ble_eq_true rfl, Nat.le_of_ble_eq_true rfl⟩ hl.1 (Nat.le_of_ble_eq_true rfl) dX6_isOwnHere_157 (fun H locs hM hS => ?_)
  refine lv_if_ne (tgt := 218) hx hb dX6_isOwnHere_160 (by decide) (fun c3 => ?_) (fun c3 => ?_)
  · replace h := ie c3 h
    exact wX6_isOwnHere_218 S hr hlk hK x2.1 h _ _ hM hS _ (lv_sub hl [1] rfl)
  replace h := it c3 h
  refine lv_aload_n hx hb dX6_isOwnHere_163 rfl (lv_at hl 1 rfl) ?_
  refine lv_aload_n hx hb dX6_isOwnHere_164 rfl (lv_at hl 1 rfl) ?_
  refine m_get S hK hM 23 (Nat.le_of_ble_eq_true rfl) q1755 (v := .ref (ma b 23)) rfl dX6_isOwnHere_165 ?_
  replace h := ob h
  obtain ⟨x4, hx4, h⟩ := h
  refine kX6_isHere S hK hM hS hx4 ⟨Nat.le_of_ble_eq_true rfl, Nat.le_of_ble_eq_true rfl⟩ hl.1 (Nat.le_of_ble_eq_true rfl) dX6_isOwnHere_168 (fun H locs hM hS => ?_)
  refine lv_if_ne (tgt := 218) hx hb dX6_isOwnHere_171 (by decide) (fun c5 => ?_) (fun c5 => ?_)
  · replace h := ie c5 h
    exact wX6_isOwnHere_218 S hr hlk hK x4.1 h _ _ hM hS _ (lv_sub hl [1] rfl)
  replace h := it c5 h
  refine lv_aload_n hx hb dX6_isOwnHere_174 rfl (lv_at hl 1 rfl) ?_
  refine lv_aload_n hx hb dX6_isOwnHere_175 rfl (lv_at hl 1 rfl) ?_
  refine m_get S hK hM 24 (Nat.le_of_ble_eq_true rfl) q1756 (v := .ref (ma b 24)) rfl dX6_isOwnHere_176 ?_
  replace h := ob h
  obtain ⟨x6, hx6, h⟩ := h
  refine kX6_isHere S hK hM hS hx6 ⟨Nat.le_of_ble_eq_true rfl, Nat.le_of_ble_eq_true rfl⟩ hl.1 (Nat.le_of_ble_eq_true rfl) dX6_isOwnHere_179 (fun H locs hM hS => ?_)
  refine lv_if_ne (tgt := 218) hx hb dX6_isOwnHere_182 (by decide) (fun c7 => ?_) (fun c7 => ?_)
  · replace h := ie c7 h
    exact wX6_isOwnHere_218 S hr hlk hK x6.1 h _ _ hM hS _ (lv_sub hl [1] rfl)
  replace h := it c7 h
  refine lv_aload_n hx hb dX6_isOwnHere_185 rfl (lv_at hl 1 rfl) ?_
  refine lv_aload_n hx hb dX6_isOwnHere_186 rfl (lv_at hl 1 rfl) ?_
  refine m_get S hK hM 25 (Nat.le_of_ble_eq_true rfl) q1757 (v := .ref (ma b 25)) rfl dX6_isOwnHere_187 ?_
  replace h := ob h
  obtain ⟨x8, hx8, h⟩ := h
  refine kX6_isHere S hK hM hS hx8 ⟨Nat.le_of_ble_eq_true rfl, Nat.le_of_ble_eq_true rfl⟩ hl.1 (Nat.le_of_ble_eq_true rfl) dX6_isOwnHere_190 (fun H locs hM hS => ?_)
  refine lv_if_ne (tgt := 218) hx hb dX6_isOwnHere_193 (by decide) (fun c9 => ?_) (fun c9 => ?_)
  · replace h := ie c9 h
    exact wX6_isOwnHere_218 S hr hlk hK x8.1 h _ _ hM hS _ (lv_sub hl [1] rfl)
  replace h := it c9 h
  refine lv_aload_n hx hb dX6_isOwnHere_196 rfl (lv_at hl 1 rfl) ?_
  refine lv_aload_n hx hb dX6_isOwnHere_197 rfl (lv_at hl 1 rfl) ?_
  refine m_get S hK hM 26 (Nat.le_of_ble_eq_true rfl) q1758 (v := .ref (ma b 26)) rfl dX6_isOwnHere_198 ?_
  replace h := ob h
  obtain ⟨x10, hx10, h⟩ := h
  refine kX6_isHere S hK hM hS hx10 ⟨Nat.le_of_ble_eq_true rfl, Nat.le_of_ble_eq_true rfl⟩ hl.1 (Nat.le_of_ble_eq_true rfl) dX6_isOwnHere_201 (fun H locs hM hS => ?_)
  refine lv_if_ne (tgt := 218) hx hb dX6_isOwnHere_204 (by decide) (fun c11 => ?_) (fun c11 => ?_)
  · replace h := ie c11 h
    exact wX6_isOwnHere_218 S hr hlk hK x10.1 h _ _ hM hS _ (lv_sub hl [1] rfl)
  replace h := it c11 h
  refine lv_aload_n hx hb dX6_isOwnHere_207 rfl (lv_at hl 1 rfl) ?_
  refine lv_aload_n hx hb dX6_isOwnHere_208 rfl (lv_at hl 1 rfl) ?_
  refine m_get S hK hM 27 (Nat.le_of_ble_eq_true rfl) q1759 (v := .ref (ma b 27)) rfl dX6_isOwnHere_209 ?_
  replace h := ob h
  obtain ⟨x12, hx12, h⟩ := h
  refine kX6_isHere S hK hM hS hx12 ⟨Nat.le_of_ble_eq_true rfl, Nat.le_of_ble_eq_true rfl⟩ hl.1 (Nat.le_of_ble_eq_true rfl) dX6_isOwnHere_212 (fun H locs hM hS => ?_)
  refine lv_if_eq (tgt := 222) hx hb dX6_isOwnHere_215 (by decide) (fun c13 => ?_) (fun c13 => ?_)
  rotate_left 1
  · replace h := ie c13 h
    exact wX6_isOwnHere_218 S hr hlk hK x12.1 h _ _ hM hS _ (lv_sub hl [1] rfl)
  replace h := it c13 h
  refine lv_iconst (v := (0 : Int32)) hx hb dX6_isOwnHere_222 (by decide) ?_
  exact wX6_isOwnHere_223 S hr hlk hK x12.1 (0 : Int32) h _ _ hM hS _ (lv_sub hl [1] rfl)
set_option maxHeartbeats 4000000 in
theorem wX6_isOwnHere_142 {p : Program} {l : Launch} {e : Env} {s : State} {m : MethodId} {args : Array Value} {below : List Frame} {meth : Method} {c : Code} {G : mG} {b : Nat} (S : CallFix p m c cX6_isOwnHere 2 s args lw_all RX6) (hr : meth.sig.returnType = some .boolean) (hlk : meth.locks = false) (hK : mK G s) {x : MS × Int32} : ∀ (σ : MS), fX6_isOwnHere_142 σ = some x → mGo p l e rmX6_isOwnHere s m args below meth c G b (MQ below (mQi G b x) args s 0 0 (mB b)) 2 142 [(0, .ref b)] [] σ := by
  obtain ⟨hx, hb, hml, hown, hts⟩ := id S
  intro σ h H locs hM hS ls hl
  unfold fX6_isOwnHere_142 at h
  refine lv_iconst (v := (1 : Int32)) hx hb dX6_isOwnHere_142 (by decide) ?_
  refine lv_goto (tgt := 147) hx hb dX6_isOwnHere_143 (by decide) ?_
  exact wX6_isOwnHere_147 S hr hlk hK σ (1 : Int32) h _ _ hM hS _ (lv_sub hl [0] rfl)
set_option maxHeartbeats 4000000 in
theorem wX6_isOwnHere_71 {p : Program} {l : Launch} {e : Env} {s : State} {m : MethodId} {args : Array Value} {below : List Frame} {meth : Method} {c : Code} {G : mG} {b : Nat} (S : CallFix p m c cX6_isOwnHere 2 s args lw_all RX6) (hr : meth.sig.returnType = some .boolean) (hlk : meth.locks = false) (hK : mK G s) {x : MS × Int32} : ∀ (σ : MS) (t0 : Int32), fX6_isOwnHere_71 σ t0 = some x → mGo p l e rmX6_isOwnHere s m args below meth c G b (MQ below (mQi G b x) args s 0 0 (mB b)) 2 71 [(0, .ref b)] [.int t0] σ := by
  obtain ⟨hx, hb, hml, hown, hts⟩ := id S
  intro σ t0 h H locs hM hS ls hl
  unfold fX6_isOwnHere_71 at h
  refine lv_istore_n (lv' := [(1, .int t0), (0, .ref b)]) hx hb dX6_isOwnHere_71 rfl hl (by decide) rfl (fun ls hl => ?_)
  refine lv_iload_n hx hb dX6_isOwnHere_72 rfl (lv_at hl 0 rfl) ?_
  refine lv_if_ne (tgt := 142) hx hb dX6_isOwnHere_73 (by decide) (fun c1 => ?_) (fun c1 => ?_)
  · replace h := ie c1 h
    exact wX6_isOwnHere_142 S hr hlk hK σ h _ _ hM hS _ (lv_sub hl [1] rfl)
  replace h := it c1 h
  refine lv_aload_n hx hb dX6_isOwnHere_76 rfl (lv_at hl 1 rfl) ?_
  refine lv_aload_n hx hb dX6_isOwnHere_77 rfl (lv_at hl 1 rfl) ?_
  refine m_get S hK hM 16 (Nat.le_of_ble_eq_true rfl) q1748 (v := .ref (ma b 16)) rfl dX6_isOwnHere_78 ?_
  replace h := ob h
  obtain ⟨x2, hx2, h⟩ := h
  refine kX6_isHere S hK hM hS hx2 ⟨Nat.le_of_ble_eq_true rfl, Nat.le_of_ble_eq_true rfl⟩ hl.1 (Nat.le_of_ble_eq_true rfl) dX6_isOwnHere_81 (fun H locs hM hS => ?_)
  refine lv_if_ne (tgt := 142) hx hb dX6_isOwnHere_84 (by decide) (fun c3 => ?_) (fun c3 => ?_)
  · replace h := ie c3 h
    exact wX6_isOwnHere_142 S hr hlk hK x2.1 h _ _ hM hS _ (lv_sub hl [1] rfl)
  replace h := it c3 h
  refine lv_aload_n hx hb dX6_isOwnHere_87 rfl (lv_at hl 1 rfl) ?_
  refine lv_aload_n hx hb dX6_isOwnHere_88 rfl (lv_at hl 1 rfl) ?_
  refine m_get S hK hM 17 (Nat.le_of_ble_eq_true rfl) q1749 (v := .ref (ma b 17)) rfl dX6_isOwnHere_89 ?_
  replace h := ob h
  obtain ⟨x4, hx4, h⟩ := h
  refine kX6_isHere S hK hM hS hx4 ⟨Nat.le_of_ble_eq_true rfl, Nat.le_of_ble_eq_true rfl⟩ hl.1 (Nat.le_of_ble_eq_true rfl) dX6_isOwnHere_92 (fun H locs hM hS => ?_)
  refine lv_if_ne (tgt := 142) hx hb dX6_isOwnHere_95 (by decide) (fun c5 => ?_) (fun c5 => ?_)
  · replace h := ie c5 h
    exact wX6_isOwnHere_142 S hr hlk hK x4.1 h _ _ hM hS _ (lv_sub hl [1] rfl)
  replace h := it c5 h
  refine lv_aload_n hx hb dX6_isOwnHere_98 rfl (lv_at hl 1 rfl) ?_
  refine lv_aload_n hx hb dX6_isOwnHere_99 rfl (lv_at hl 1 rfl) ?_
  refine m_get S hK hM 18 (Nat.le_of_ble_eq_true rfl) q1750 (v := .ref (ma b 18)) rfl dX6_isOwnHere_100 ?_
  replace h := ob h
  obtain ⟨x6, hx6, h⟩ := h
  refine kX6_isHere S hK hM hS hx6 ⟨Nat.le_of_ble_eq_true rfl, Nat.le_of_ble_eq_true rfl⟩ hl.1 (Nat.le_of_ble_eq_true rfl) dX6_isOwnHere_103 (fun H locs hM hS => ?_)
  refine lv_if_ne (tgt := 142) hx hb dX6_isOwnHere_106 (by decide) (fun c7 => ?_) (fun c7 => ?_)
  · replace h := ie c7 h
    exact wX6_isOwnHere_142 S hr hlk hK x6.1 h _ _ hM hS _ (lv_sub hl [1] rfl)
  replace h := it c7 h
  refine lv_aload_n hx hb dX6_isOwnHere_109 rfl (lv_at hl 1 rfl) ?_
  refine lv_aload_n hx hb dX6_isOwnHere_110 rfl (lv_at hl 1 rfl) ?_
  refine m_get S hK hM 19 (Nat.le_of_ble_eq_true rfl) q1751 (v := .ref (ma b 19)) rfl dX6_isOwnHere_111 ?_
  replace h := ob h
  obtain ⟨x8, hx8, h⟩ := h
  refine kX6_isHere S hK hM hS hx8 ⟨Nat.le_of_ble_eq_true rfl, Nat.le_of_ble_eq_true rfl⟩ hl.1 (Nat.le_of_ble_eq_true rfl) dX6_isOwnHere_114 (fun H locs hM hS => ?_)
  refine lv_if_ne (tgt := 142) hx hb dX6_isOwnHere_117 (by decide) (fun c9 => ?_) (fun c9 => ?_)
  · replace h := ie c9 h
    exact wX6_isOwnHere_142 S hr hlk hK x8.1 h _ _ hM hS _ (lv_sub hl [1] rfl)
  replace h := it c9 h
  refine lv_aload_n hx hb dX6_isOwnHere_120 rfl (lv_at hl 1 rfl) ?_
  refine lv_aload_n hx hb dX6_isOwnHere_121 rfl (lv_at hl 1 rfl) ?_
  refine m_get S hK hM 20 (Nat.le_of_ble_eq_true rfl) q1752 (v := .ref (ma b 20)) rfl dX6_isOwnHere_122 ?_
  replace h := ob h
  obtain ⟨x10, hx10, h⟩ := h
  refine kX6_isHere S hK hM hS hx10 ⟨Nat.le_of_ble_eq_true rfl, Nat.le_of_ble_eq_true rfl⟩ hl.1 (Nat.le_of_ble_eq_true rfl) dX6_isOwnHere_125 (fun H locs hM hS => ?_)
  refine lv_if_ne (tgt := 142) hx hb dX6_isOwnHere_128 (by decide) (fun c11 => ?_) (fun c11 => ?_)
  · replace h := ie c11 h
    exact wX6_isOwnHere_142 S hr hlk hK x10.1 h _ _ hM hS _ (lv_sub hl [1] rfl)
  replace h := it c11 h
  refine lv_aload_n hx hb dX6_isOwnHere_131 rfl (lv_at hl 1 rfl) ?_
  refine lv_aload_n hx hb dX6_isOwnHere_132 rfl (lv_at hl 1 rfl) ?_
  refine m_get S hK hM 21 (Nat.le_of_ble_eq_true rfl) q1753 (v := .ref (ma b 21)) rfl dX6_isOwnHere_133 ?_
  replace h := ob h
  obtain ⟨x12, hx12, h⟩ := h
  refine kX6_isHere S hK hM hS hx12 ⟨Nat.le_of_ble_eq_true rfl, Nat.le_of_ble_eq_true rfl⟩ hl.1 (Nat.le_of_ble_eq_true rfl) dX6_isOwnHere_136 (fun H locs hM hS => ?_)
  refine lv_if_eq (tgt := 146) hx hb dX6_isOwnHere_139 (by decide) (fun c13 => ?_) (fun c13 => ?_)
  rotate_left 1
  · replace h := ie c13 h
    exact wX6_isOwnHere_142 S hr hlk hK x12.1 h _ _ hM hS _ (lv_sub hl [1] rfl)
  replace h := it c13 h
  refine lv_iconst (v := (0 : Int32)) hx hb dX6_isOwnHere_146 (by decide) ?_
  exact wX6_isOwnHere_147 S hr hlk hK x12.1 (0 : Int32) h _ _ hM hS _ (lv_sub hl [1] rfl)
set_option maxHeartbeats 4000000 in
theorem wX6_isOwnHere_66 {p : Program} {l : Launch} {e : Env} {s : State} {m : MethodId} {args : Array Value} {below : List Frame} {meth : Method} {c : Code} {G : mG} {b : Nat} (S : CallFix p m c cX6_isOwnHere 2 s args lw_all RX6) (hr : meth.sig.returnType = some .boolean) (hlk : meth.locks = false) (hK : mK G s) {x : MS × Int32} : ∀ (σ : MS), fX6_isOwnHere_66 σ = some x → mGo p l e rmX6_isOwnHere s m args below meth c G b (MQ below (mQi G b x) args s 0 0 (mB b)) 2 66 [(0, .ref b)] [] σ := by
  obtain ⟨hx, hb, hml, hown, hts⟩ := id S
  intro σ h H locs hM hS ls hl
  unfold fX6_isOwnHere_66 at h
  refine lv_iconst (v := (1 : Int32)) hx hb dX6_isOwnHere_66 (by decide) ?_
  refine lv_goto (tgt := 71) hx hb dX6_isOwnHere_67 (by decide) ?_
  exact wX6_isOwnHere_71 S hr hlk hK σ (1 : Int32) h _ _ hM hS _ (lv_sub hl [0] rfl)
set_option maxHeartbeats 4000000 in
theorem metX6_isOwnHere {l : Launch} {G : mG} {b : Nat} {σ : MS} {x : MS × Int32} (h : fX6_isOwnHere σ = some x) : Met l yX6_isOwnHere (ws_ yX6_isOwnHere cX6_isOwnHere 2 (some .boolean)) rmX6_isOwnHere (mP G b σ [.ref b]) (mQi G b x) 0 0 (mB b) := by
  refine m_entry (by decide) rfl (Nat.le_of_ble_eq_true rfl) ?_
  intro p e s m below meth c S hr hlk hK hM hS ls hl
  replace hl : lv_has ls 2 [(0, .ref b)] := hl
  obtain ⟨hx, hb, hml, hown, hts⟩ := id S
  unfold fX6_isOwnHere at h
  refine lv_aload_n hx hb dX6_isOwnHere_0 rfl (lv_at hl 0 rfl) ?_
  refine lv_aload_n hx hb dX6_isOwnHere_1 rfl (lv_at hl 0 rfl) ?_
  refine m_get S hK hM 10 (Nat.le_of_ble_eq_true rfl) q1742 (v := .ref (ma b 10)) rfl dX6_isOwnHere_2 ?_
  replace h := ob h
  obtain ⟨x1, hx1, h⟩ := h
  refine kX6_isHere S hK hM hS hx1 ⟨Nat.le_of_ble_eq_true rfl, Nat.le_of_ble_eq_true rfl⟩ hl.1 (Nat.le_of_ble_eq_true rfl) dX6_isOwnHere_5 (fun H locs hM hS => ?_)
  refine lv_if_ne (tgt := 66) hx hb dX6_isOwnHere_8 (by decide) (fun c2 => ?_) (fun c2 => ?_)
  · replace h := ie c2 h
    exact wX6_isOwnHere_66 S hr hlk hK x1.1 h _ _ hM hS _ (lv_sub hl [0] rfl)
  replace h := it c2 h
  refine lv_aload_n hx hb dX6_isOwnHere_11 rfl (lv_at hl 0 rfl) ?_
  refine lv_aload_n hx hb dX6_isOwnHere_12 rfl (lv_at hl 0 rfl) ?_
  refine m_get S hK hM 11 (Nat.le_of_ble_eq_true rfl) q1743 (v := .ref (ma b 11)) rfl dX6_isOwnHere_13 ?_
  replace h := ob h
  obtain ⟨x3, hx3, h⟩ := h
  refine kX6_isHere S hK hM hS hx3 ⟨Nat.le_of_ble_eq_true rfl, Nat.le_of_ble_eq_true rfl⟩ hl.1 (Nat.le_of_ble_eq_true rfl) dX6_isOwnHere_16 (fun H locs hM hS => ?_)
  refine lv_if_ne (tgt := 66) hx hb dX6_isOwnHere_19 (by decide) (fun c4 => ?_) (fun c4 => ?_)
  · replace h := ie c4 h
    exact wX6_isOwnHere_66 S hr hlk hK x3.1 h _ _ hM hS _ (lv_sub hl [0] rfl)
  replace h := it c4 h
  refine lv_aload_n hx hb dX6_isOwnHere_22 rfl (lv_at hl 0 rfl) ?_
  refine lv_aload_n hx hb dX6_isOwnHere_23 rfl (lv_at hl 0 rfl) ?_
  refine m_get S hK hM 12 (Nat.le_of_ble_eq_true rfl) q1744 (v := .ref (ma b 12)) rfl dX6_isOwnHere_24 ?_
  replace h := ob h
  obtain ⟨x5, hx5, h⟩ := h
  refine kX6_isHere S hK hM hS hx5 ⟨Nat.le_of_ble_eq_true rfl, Nat.le_of_ble_eq_true rfl⟩ hl.1 (Nat.le_of_ble_eq_true rfl) dX6_isOwnHere_27 (fun H locs hM hS => ?_)
  refine lv_if_ne (tgt := 66) hx hb dX6_isOwnHere_30 (by decide) (fun c6 => ?_) (fun c6 => ?_)
  · replace h := ie c6 h
    exact wX6_isOwnHere_66 S hr hlk hK x5.1 h _ _ hM hS _ (lv_sub hl [0] rfl)
  replace h := it c6 h
  refine lv_aload_n hx hb dX6_isOwnHere_33 rfl (lv_at hl 0 rfl) ?_
  refine lv_aload_n hx hb dX6_isOwnHere_34 rfl (lv_at hl 0 rfl) ?_
  refine m_get S hK hM 13 (Nat.le_of_ble_eq_true rfl) q1745 (v := .ref (ma b 13)) rfl dX6_isOwnHere_35 ?_
  replace h := ob h
  obtain ⟨x7, hx7, h⟩ := h
  refine kX6_isHere S hK hM hS hx7 ⟨Nat.le_of_ble_eq_true rfl, Nat.le_of_ble_eq_true rfl⟩ hl.1 (Nat.le_of_ble_eq_true rfl) dX6_isOwnHere_38 (fun H locs hM hS => ?_)
  refine lv_if_ne (tgt := 66) hx hb dX6_isOwnHere_41 (by decide) (fun c8 => ?_) (fun c8 => ?_)
  · replace h := ie c8 h
    exact wX6_isOwnHere_66 S hr hlk hK x7.1 h _ _ hM hS _ (lv_sub hl [0] rfl)
  replace h := it c8 h
  refine lv_aload_n hx hb dX6_isOwnHere_44 rfl (lv_at hl 0 rfl) ?_
  refine lv_aload_n hx hb dX6_isOwnHere_45 rfl (lv_at hl 0 rfl) ?_
  refine m_get S hK hM 14 (Nat.le_of_ble_eq_true rfl) q1746 (v := .ref (ma b 14)) rfl dX6_isOwnHere_46 ?_
  replace h := ob h
  obtain ⟨x9, hx9, h⟩ := h
  refine kX6_isHere S hK hM hS hx9 ⟨Nat.le_of_ble_eq_true rfl, Nat.le_of_ble_eq_true rfl⟩ hl.1 (Nat.le_of_ble_eq_true rfl) dX6_isOwnHere_49 (fun H locs hM hS => ?_)
  refine lv_if_ne (tgt := 66) hx hb dX6_isOwnHere_52 (by decide) (fun c10 => ?_) (fun c10 => ?_)
  · replace h := ie c10 h
    exact wX6_isOwnHere_66 S hr hlk hK x9.1 h _ _ hM hS _ (lv_sub hl [0] rfl)
  replace h := it c10 h
  refine lv_aload_n hx hb dX6_isOwnHere_55 rfl (lv_at hl 0 rfl) ?_
  refine lv_aload_n hx hb dX6_isOwnHere_56 rfl (lv_at hl 0 rfl) ?_
  refine m_get S hK hM 15 (Nat.le_of_ble_eq_true rfl) q1747 (v := .ref (ma b 15)) rfl dX6_isOwnHere_57 ?_
  replace h := ob h
  obtain ⟨x11, hx11, h⟩ := h
  refine kX6_isHere S hK hM hS hx11 ⟨Nat.le_of_ble_eq_true rfl, Nat.le_of_ble_eq_true rfl⟩ hl.1 (Nat.le_of_ble_eq_true rfl) dX6_isOwnHere_60 (fun H locs hM hS => ?_)
  refine lv_if_eq (tgt := 70) hx hb dX6_isOwnHere_63 (by decide) (fun c12 => ?_) (fun c12 => ?_)
  rotate_left 1
  · replace h := ie c12 h
    exact wX6_isOwnHere_66 S hr hlk hK x11.1 h _ _ hM hS _ (lv_sub hl [0] rfl)
  replace h := it c12 h
  refine lv_iconst (v := (0 : Int32)) hx hb dX6_isOwnHere_70 (by decide) ?_
  exact wX6_isOwnHere_71 S hr hlk hK x11.1 (0 : Int32) h _ _ hM hS _ (lv_sub hl [0] rfl)
theorem kX6_isOwnHere {p : Program} {l : Launch} {e : Env} {R : Room} {s : State} {m : MethodId} {args : Array Value} {below : List Frame} {meth : Method} {c : Code} {H H0 : Heap} {locs : List Loc} {Q : State → Prop} {cc : ByteArray} {nL pc : Nat} {ls : Array Slot} {rest : List Value} {G : mG} {b : Nat} {σ : MS} {x : MS × Int32} (S : CallFix p m c cc nL s args lw_all RX6) (hK : mK G s) (hM : MW G b σ H) (hS : va_S (mB b) H0 H locs) (hf : fX6_isOwnHere σ = some x) (hR : rmX6_isOwnHere.frames + 1 ≤ R.frames ∧ 8 + (2 + 11) + rmX6_isOwnHere.locals ≤ R.locals) (hsize : ls.size = nL) (hr : (rest.map fun v => v.category).sum ≤ 8) (hdg : decode cc pc = .ok (.invokevirtual 286, 3)) (kk : ∀ (H1 : Heap) (locs1 : List Loc), MW G b x.1 H1 → va_S (mB b) H0 H1 locs1 → W p l e R s m args below meth c H1 locs1 0 0 Q (F0 m (pc + 3) ls (.int x.2 :: rest))) : W p l e R s m args below meth c H locs 0 0 Q (F0 m pc ls (.ref b :: rest)) :=
  m_cVi (As := []) S hK hM hS (metX6_isOwnHere hf) (cwV 0 S.2.2.2.2 (lw_V q2093 q2095 qs74 q179 q2096) rfl rfl rfl (by decide +kernel) hR) ⟨Nat.zero_le _, Nat.zero_le _⟩ rfl hsize rfl hr hdg kk
/-! name()J -/
abbrev rmX6_name : Room := { frames := 4, cells := 0, slots := 0, locals := 64 }
def fX6_name_37 (σ : MS) : Option (MS × Int64) :=
  (fX6_fail σ (1 : Int32) (σ.1 2)).bind fun x1 =>
  some (x1, (0 : Int64))
def fX6_name_145 (σ : MS) (a1 : Int64) : Option (MS × Int64) :=
  some ((sI σ 4 (σ.1 2)), a1)
def fX6_name_58 : Nat → MS → Int64 → Option (MS × Int64)
  | 0, _, _ => none
  | n + 1, σ, a1 =>
    if (σ.1 3) ≤ (σ.1 2) then
      fX6_name_145 σ a1
    else
    (aI σ 0 (σ.1 2)).bind fun v2 =>
    (fX6_isLetter σ v2).bind fun x3 =>
    if x3 = 0 then
      fX6_name_145 σ a1
    else
    if ((σ.1 2) - (σ.1 39)) = (6 : Int32) then
      (fX6_fail σ (1 : Int32) (σ.1 2)).bind fun x7 =>
      some (x7, (0 : Int64))
    else
    (aI σ 0 (σ.1 2)).bind fun v6 =>
    fX6_name_58 n (sI σ 2 ((σ.1 2) + (1 : Int32))) (((((27 : Int64) * a1) + v6.toInt64) - (97 : Int64)) + (1 : Int64))
def fX6_name (σ : MS) : Option (MS × Int64) :=
  if (σ.1 5) = 0 then
    (fX6_look σ).bind fun x2 =>
    (fX6_isLetter x2.1 x2.2).bind fun x3 =>
    if x3 = 0 then
      fX6_name_37 x2.1
    else
    if (x2.1.1 2) = (x2.1.1 4) then
      fX6_name_37 x2.1
    else
    (fX6_isOwnHere x2.1).bind fun x6 =>
    if x6.2 = 0 then
      fX6_name_58 FU (sI x6.1 39 (x6.1.1 2)) (0 : Int64)
    else
    fX6_name_37 x6.1
  else
  some (σ, (0 : Int64))
set_option maxHeartbeats 4000000 in
theorem wX6_name_37 {p : Program} {l : Launch} {e : Env} {s : State} {m : MethodId} {args : Array Value} {below : List Frame} {meth : Method} {c : Code} {G : mG} {b : Nat} (S : CallFix p m c cX6_name 3 s args lw_all RX6) (hr : meth.sig.returnType = some .long) (hlk : meth.locks = false) (hK : mK G s) {x : MS × Int64} : ∀ (σ : MS), fX6_name_37 σ = some x → mGo p l e rmX6_name s m args below meth c G b (MQ below (mQl G b x) args s 0 0 (mB b)) 3 37 [(0, .ref b)] [] σ := by
  obtain ⟨hx, hb, hml, hown, hts⟩ := id S
  intro σ h H locs hM hS ls hl
  unfold fX6_name_37 at h
  refine lv_aload_n hx hb dX6_name_37 rfl (lv_at hl 0 rfl) ?_
  refine lv_iconst (v := (1 : Int32)) hx hb dX6_name_38 (by decide) ?_
  refine lv_aload_n hx hb dX6_name_39 rfl (lv_at hl 0 rfl) ?_
  refine m_get S hK hM 2 (Nat.le_of_ble_eq_true rfl) q1734 (v := .int (σ.1 2)) rfl dX6_name_40 ?_
  replace h := ob h
  obtain ⟨x1, hx1, h⟩ := h
  refine kX6_fail S hK hM hS hx1 ⟨Nat.le_of_ble_eq_true rfl, Nat.le_of_ble_eq_true rfl⟩ hl.1 (Nat.le_of_ble_eq_true rfl) dX6_name_43 (fun H locs hM hS => ?_)
  refine lv_lconst (v := (0 : Int64)) hx hb dX6_name_46 (by decide) ?_
  exact m_lret S hr hlk hM hS h dX6_name_47
set_option maxHeartbeats 4000000 in
theorem wX6_name_145 {p : Program} {l : Launch} {e : Env} {s : State} {m : MethodId} {args : Array Value} {below : List Frame} {meth : Method} {c : Code} {G : mG} {b : Nat} (S : CallFix p m c cX6_name 3 s args lw_all RX6) (hr : meth.sig.returnType = some .long) (hlk : meth.locks = false) (hK : mK G s) {x : MS × Int64} : ∀ (σ : MS) (a1 : Int64), fX6_name_145 σ a1 = some x → mGo p l e rmX6_name s m args below meth c G b (MQ below (mQl G b x) args s 0 0 (mB b)) 3 145 [(0, .ref b), (1, .long a1)] [] σ := by
  obtain ⟨hx, hb, hml, hown, hts⟩ := id S
  intro σ a1 h H locs hM hS ls hl
  unfold fX6_name_145 at h
  refine lv_aload_n hx hb dX6_name_145 rfl (lv_at hl 0 rfl) ?_
  refine lv_aload_n hx hb dX6_name_146 rfl (lv_at hl 0 rfl) ?_
  refine m_get S hK hM 2 (Nat.le_of_ble_eq_true rfl) q1734 (v := .int (σ.1 2)) rfl dX6_name_147 ?_
  refine m_putI S hK hM hS 4 (Nat.le_of_ble_eq_true rfl) rfl q1736 rfl (ty := .int) rfl rfl rfl dX6_name_150 (fun H locs hM hS => ?_)
  refine lv_lload_n hx hb dX6_name_153 rfl (lv_at hl 1 rfl) ?_
  exact m_lret S hr hlk hM hS h dX6_name_154
set_option maxHeartbeats 4000000 in
theorem wX6_name_58 {p : Program} {l : Launch} {e : Env} {s : State} {m : MethodId} {args : Array Value} {below : List Frame} {meth : Method} {c : Code} {G : mG} {b : Nat} (S : CallFix p m c cX6_name 3 s args lw_all RX6) (hr : meth.sig.returnType = some .long) (hlk : meth.locks = false) (hK : mK G s) {x : MS × Int64} : ∀ (n : Nat) (σ : MS) (a1 : Int64), fX6_name_58 n σ a1 = some x → mGo p l e rmX6_name s m args below meth c G b (MQ below (mQl G b x) args s 0 0 (mB b)) 3 58 [(0, .ref b), (1, .long a1)] [] σ := by
  obtain ⟨hx, hb, hml, hown, hts⟩ := id S
  intro n
  induction n with
  | zero => intro σ a1 h; cases h
  | succ n ih =>
    intro σ a1 h H locs hM hS ls hl
    rw [fX6_name_58] at h
    refine lv_aload_n hx hb dX6_name_58 rfl (lv_at hl 0 rfl) ?_
    refine m_get S hK hM 2 (Nat.le_of_ble_eq_true rfl) q1734 (v := .int (σ.1 2)) rfl dX6_name_59 ?_
    refine lv_aload_n hx hb dX6_name_62 rfl (lv_at hl 0 rfl) ?_
    refine m_get S hK hM 3 (Nat.le_of_ble_eq_true rfl) q1735 (v := .int (σ.1 3)) rfl dX6_name_63 ?_
    refine lv_icmp_ge (tgt := 145) hx hb dX6_name_66 (by decide) (fun c1 => ?_) (fun c1 => ?_)
    · replace h := it c1 h
      exact wX6_name_145 S hr hlk hK σ a1 h _ _ hM hS _ (lv_sub hl [0, 1] rfl)
    replace h := ie c1 h
    refine lv_aload_n hx hb dX6_name_69 rfl (lv_at hl 0 rfl) ?_
    refine m_get S hK hM 0 (Nat.le_of_ble_eq_true rfl) q1732 (v := .ref (ma b 0)) rfl dX6_name_70 ?_
    refine lv_aload_n hx hb dX6_name_73 rfl (lv_at hl 0 rfl) ?_
    refine m_get S hK hM 2 (Nat.le_of_ble_eq_true rfl) q1734 (v := .int (σ.1 2)) rfl dX6_name_74 ?_
    replace h := ob h
    obtain ⟨v2, hv2, h⟩ := h
    refine m_iald S hK hM 0 rfl hv2 dX6_name_77 ?_
    replace h := ob h
    obtain ⟨x3, hx3, h⟩ := h
    refine kX6_isLetter S hK hM hS hx3 ⟨Nat.le_of_ble_eq_true rfl, Nat.le_of_ble_eq_true rfl⟩ hl.1 (Nat.le_of_ble_eq_true rfl) dX6_name_78 (fun H locs hM hS => ?_)
    refine lv_if_eq (tgt := 145) hx hb dX6_name_81 (by decide) (fun c4 => ?_) (fun c4 => ?_)
    · replace h := it c4 h
      exact wX6_name_145 S hr hlk hK σ a1 h _ _ hM hS _ (lv_sub hl [0, 1] rfl)
    replace h := ie c4 h
    refine lv_aload_n hx hb dX6_name_84 rfl (lv_at hl 0 rfl) ?_
    refine m_get S hK hM 2 (Nat.le_of_ble_eq_true rfl) q1734 (v := .int (σ.1 2)) rfl dX6_name_85 ?_
    refine lv_aload_n hx hb dX6_name_88 rfl (lv_at hl 0 rfl) ?_
    refine m_get S hK hM 39 (Nat.le_of_ble_eq_true rfl) q1771 (v := .int (σ.1 39)) rfl dX6_name_89 ?_
    refine lv_isub hx hb dX6_name_92 ?_
    refine lv_bipush (v := (6 : Int32)) hx hb dX6_name_93 (by decide) ?_
    refine lv_icmp_ne (tgt := 109) hx hb dX6_name_95 (by decide) (fun c5 => ?_) (fun c5 => ?_)
    rotate_left 1
    · replace h := it c5 h
      refine lv_aload_n hx hb dX6_name_98 rfl (lv_at hl 0 rfl) ?_
      refine lv_iconst (v := (1 : Int32)) hx hb dX6_name_99 (by decide) ?_
      refine lv_aload_n hx hb dX6_name_100 rfl (lv_at hl 0 rfl) ?_
      refine m_get S hK hM 2 (Nat.le_of_ble_eq_true rfl) q1734 (v := .int (σ.1 2)) rfl dX6_name_101 ?_
      replace h := ob h
      obtain ⟨x7, hx7, h⟩ := h
      refine kX6_fail S hK hM hS hx7 ⟨Nat.le_of_ble_eq_true rfl, Nat.le_of_ble_eq_true rfl⟩ hl.1 (Nat.le_of_ble_eq_true rfl) dX6_name_104 (fun H locs hM hS => ?_)
      refine lv_lconst (v := (0 : Int64)) hx hb dX6_name_107 (by decide) ?_
      exact m_lret S hr hlk hM hS h dX6_name_108
    replace h := ie c5 h
    refine lv_ldc2 hx hb hown (hts _ q2097) dX6_name_109 ?_
    refine lv_lload_n hx hb dX6_name_112 rfl (lv_at hl 1 rfl) ?_
    refine lv_lmul hx hb dX6_name_113 ?_
    refine lv_aload_n hx hb dX6_name_114 rfl (lv_at hl 0 rfl) ?_
    refine m_get S hK hM 0 (Nat.le_of_ble_eq_true rfl) q1732 (v := .ref (ma b 0)) rfl dX6_name_115 ?_
    refine lv_aload_n hx hb dX6_name_118 rfl (lv_at hl 0 rfl) ?_
    refine m_get S hK hM 2 (Nat.le_of_ble_eq_true rfl) q1734 (v := .int (σ.1 2)) rfl dX6_name_119 ?_
    replace h := ob h
    obtain ⟨v6, hv6, h⟩ := h
    refine m_iald S hK hM 0 rfl hv6 dX6_name_122 ?_
    refine lv_i2l (v := v6.toInt64) hx hb dX6_name_123 rfl ?_
    refine lv_ladd hx hb dX6_name_124 ?_
    refine lv_ldc2 hx hb hown (hts _ q2098) dX6_name_125 ?_
    refine lv_lsub hx hb dX6_name_128 ?_
    refine lv_lconst (v := (1 : Int64)) hx hb dX6_name_129 (by decide) ?_
    refine lv_ladd hx hb dX6_name_130 ?_
    refine lv_lstore_n (lv' := [(1, .long (((((27 : Int64) * a1) + v6.toInt64) - (97 : Int64)) + (1 : Int64))), (0, .ref b)]) hx hb dX6_name_131 rfl hl (by decide) rfl (fun ls hl => ?_)
    refine lv_aload_n hx hb dX6_name_132 rfl (lv_at hl 1 rfl) ?_
    refine lv_dup hx hb dX6_name_133 rfl ?_
    refine m_get S hK hM 2 (Nat.le_of_ble_eq_true rfl) q1734 (v := .int (σ.1 2)) rfl dX6_name_134 ?_
    refine lv_iconst (v := (1 : Int32)) hx hb dX6_name_137 (by decide) ?_
    refine lv_iadd hx hb dX6_name_138 ?_
    refine m_putI S hK hM hS 2 (Nat.le_of_ble_eq_true rfl) rfl q1734 rfl (ty := .int) rfl rfl rfl dX6_name_139 (fun H locs hM hS => ?_)
    refine lv_goto (tgt := 58) hx hb dX6_name_142 (by decide) ?_
    exact ih (sI σ 2 ((σ.1 2) + (1 : Int32))) (((((27 : Int64) * a1) + v6.toInt64) - (97 : Int64)) + (1 : Int64)) h _ _ hM hS _ (lv_sub hl [1, 0] rfl)
set_option maxHeartbeats 4000000 in
theorem metX6_name {l : Launch} {G : mG} {b : Nat} {σ : MS} {x : MS × Int64} (h : fX6_name σ = some x) : Met l yX6_name (ws_ yX6_name cX6_name 3 (some .long)) rmX6_name (mP G b σ [.ref b]) (mQl G b x) 0 0 (mB b) := by
  refine m_entry (by decide) rfl (Nat.le_of_ble_eq_true rfl) ?_
  intro p e s m below meth c S hr hlk hK hM hS ls hl
  replace hl : lv_has ls 3 [(0, .ref b)] := hl
  obtain ⟨hx, hb, hml, hown, hts⟩ := id S
  unfold fX6_name at h
  refine lv_aload_n hx hb dX6_name_0 rfl (lv_at hl 0 rfl) ?_
  refine m_get S hK hM 5 (Nat.le_of_ble_eq_true rfl) q1737 (v := .int (σ.1 5)) rfl dX6_name_1 ?_
  refine lv_if_eq (tgt := 9) hx hb dX6_name_4 (by decide) (fun c1 => ?_) (fun c1 => ?_)
  rotate_left 1
  · replace h := ie c1 h
    refine lv_lconst (v := (0 : Int64)) hx hb dX6_name_7 (by decide) ?_
    exact m_lret S hr hlk hM hS h dX6_name_8
  replace h := it c1 h
  refine lv_aload_n hx hb dX6_name_9 rfl (lv_at hl 0 rfl) ?_
  replace h := ob h
  obtain ⟨x2, hx2, h⟩ := h
  refine kX6_look S hK hM hS hx2 ⟨Nat.le_of_ble_eq_true rfl, Nat.le_of_ble_eq_true rfl⟩ hl.1 (Nat.le_of_ble_eq_true rfl) dX6_name_10 (fun H locs hM hS => ?_)
  replace h := ob h
  obtain ⟨x3, hx3, h⟩ := h
  refine kX6_isLetter S hK hM hS hx3 ⟨Nat.le_of_ble_eq_true rfl, Nat.le_of_ble_eq_true rfl⟩ hl.1 (Nat.le_of_ble_eq_true rfl) dX6_name_13 (fun H locs hM hS => ?_)
  refine lv_if_eq (tgt := 37) hx hb dX6_name_16 (by decide) (fun c4 => ?_) (fun c4 => ?_)
  · replace h := it c4 h
    exact wX6_name_37 S hr hlk hK x2.1 h _ _ hM hS _ (lv_sub hl [0] rfl)
  replace h := ie c4 h
  refine lv_aload_n hx hb dX6_name_19 rfl (lv_at hl 0 rfl) ?_
  refine m_get S hK hM 2 (Nat.le_of_ble_eq_true rfl) q1734 (v := .int (x2.1.1 2)) rfl dX6_name_20 ?_
  refine lv_aload_n hx hb dX6_name_23 rfl (lv_at hl 0 rfl) ?_
  refine m_get S hK hM 4 (Nat.le_of_ble_eq_true rfl) q1736 (v := .int (x2.1.1 4)) rfl dX6_name_24 ?_
  refine lv_icmp_eq (tgt := 37) hx hb dX6_name_27 (by decide) (fun c5 => ?_) (fun c5 => ?_)
  · replace h := it c5 h
    exact wX6_name_37 S hr hlk hK x2.1 h _ _ hM hS _ (lv_sub hl [0] rfl)
  replace h := ie c5 h
  refine lv_aload_n hx hb dX6_name_30 rfl (lv_at hl 0 rfl) ?_
  replace h := ob h
  obtain ⟨x6, hx6, h⟩ := h
  refine kX6_isOwnHere S hK hM hS hx6 ⟨Nat.le_of_ble_eq_true rfl, Nat.le_of_ble_eq_true rfl⟩ hl.1 (Nat.le_of_ble_eq_true rfl) dX6_name_31 (fun H locs hM hS => ?_)
  refine lv_if_eq (tgt := 48) hx hb dX6_name_34 (by decide) (fun c7 => ?_) (fun c7 => ?_)
  rotate_left 1
  · replace h := ie c7 h
    exact wX6_name_37 S hr hlk hK x6.1 h _ _ hM hS _ (lv_sub hl [0] rfl)
  replace h := it c7 h
  refine lv_aload_n hx hb dX6_name_48 rfl (lv_at hl 0 rfl) ?_
  refine lv_aload_n hx hb dX6_name_49 rfl (lv_at hl 0 rfl) ?_
  refine m_get S hK hM 2 (Nat.le_of_ble_eq_true rfl) q1734 (v := .int (x6.1.1 2)) rfl dX6_name_50 ?_
  refine m_putI S hK hM hS 39 (Nat.le_of_ble_eq_true rfl) rfl q1771 rfl (ty := .int) rfl rfl rfl dX6_name_53 (fun H locs hM hS => ?_)
  refine lv_lconst (v := (0 : Int64)) hx hb dX6_name_56 (by decide) ?_
  refine lv_lstore_n (lv' := [(1, .long (0 : Int64)), (0, .ref b)]) hx hb dX6_name_57 rfl hl (by decide) rfl (fun ls hl => ?_)
  exact wX6_name_58 S hr hlk hK FU (sI x6.1 39 (x6.1.1 2)) (0 : Int64) h _ _ hM hS _ (lv_sub hl [1, 0] rfl)
theorem kX6_name {p : Program} {l : Launch} {e : Env} {R : Room} {s : State} {m : MethodId} {args : Array Value} {below : List Frame} {meth : Method} {c : Code} {H H0 : Heap} {locs : List Loc} {Q : State → Prop} {cc : ByteArray} {nL pc : Nat} {ls : Array Slot} {rest : List Value} {G : mG} {b : Nat} {σ : MS} {x : MS × Int64} (S : CallFix p m c cc nL s args lw_all RX6) (hK : mK G s) (hM : MW G b σ H) (hS : va_S (mB b) H0 H locs) (hf : fX6_name σ = some x) (hR : rmX6_name.frames + 1 ≤ R.frames ∧ 8 + (3 + 11) + rmX6_name.locals ≤ R.locals) (hsize : ls.size = nL) (hr : (rest.map fun v => v.category).sum ≤ 8) (hdg : decode cc pc = .ok (.invokevirtual 304, 3)) (kk : ∀ (H1 : Heap) (locs1 : List Loc), MW G b x.1 H1 → va_S (mB b) H0 H1 locs1 → W p l e R s m args below meth c H1 locs1 0 0 Q (F0 m (pc + 3) ls (.long x.2 :: rest))) : W p l e R s m args below meth c H locs 0 0 Q (F0 m pc ls (.ref b :: rest)) :=
  m_cVl (As := []) S hK hM hS (metX6_name hf) (cwV 0 S.2.2.2.2 (lw_V q2089 q2091 qs73 q179 q2092) rfl rfl rfl (by decide +kernel) hR) ⟨Nat.zero_le _, Nat.zero_le _⟩ rfl hsize rfl hr hdg kk
/-! nameOf(IJ)I -/
abbrev rmX6_nameOf : Room := { frames := 1, cells := 0, slots := 0, locals := 0 }
def fX6_nameOf_3 (σ : MS) : Nat → Int32 → Int64 → Int32 → Option (Int32)
  | 0, _, _, _ => none
  | n + 1, a1, a2, a4 =>
    (aI σ 40 a1).bind fun v1 =>
    if v1 ≤ a4 then
      some (-1 : Int32)
    else
    (aL σ 41 (((8 : Int32) * a1) + a4)).bind fun v3 =>
    if v3 = a2 then
      some a4
    else
    fX6_nameOf_3 σ n a1 a2 (a4 + (1 : Int32))
def fX6_nameOf (σ : MS) (a1 : Int32) (a2 : Int64) : Option (Int32) :=
  fX6_nameOf_3 σ FU a1 a2 (0 : Int32)
set_option maxHeartbeats 4000000 in
theorem wX6_nameOf_3 {p : Program} {l : Launch} {e : Env} {s : State} {m : MethodId} {args : Array Value} {below : List Frame} {meth : Method} {c : Code} {G : mG} {b : Nat} {σ : MS} (S : CallFix p m c cX6_nameOf 5 s args lw_all RX6) (hr : meth.sig.returnType = some .int) (hlk : meth.locks = false) (hK : mK G s) {x : Int32} : ∀ (n : Nat) (a1 : Int32) (a2 : Int64) (a4 : Int32), fX6_nameOf_3 σ n a1 a2 a4 = some x → mGo p l e rmX6_nameOf s m args below meth c G b (MQ below (mQi G b (σ, x)) args s 0 0 (mB b)) 5 3 [(0, .ref b), (1, .int a1), (2, .long a2), (4, .int a4)] [] σ := by
  obtain ⟨hx, hb, hml, hown, hts⟩ := id S
  intro n
  induction n with
  | zero => intro a1 a2 a4 h; cases h
  | succ n ih =>
    intro a1 a2 a4 h H locs hM hS ls hl
    rw [fX6_nameOf_3] at h
    refine lv_iload hx hb dX6_nameOf_3 (lv_at hl 3 rfl) ?_
    refine lv_aload_n hx hb dX6_nameOf_5 rfl (lv_at hl 0 rfl) ?_
    refine m_get S hK hM 40 (Nat.le_of_ble_eq_true rfl) q1772 (v := .ref (ma b 40)) rfl dX6_nameOf_6 ?_
    refine lv_iload_n hx hb dX6_nameOf_9 rfl (lv_at hl 1 rfl) ?_
    replace h := ob h
    obtain ⟨v1, hv1, h⟩ := h
    refine m_iald S hK hM 40 rfl hv1 dX6_nameOf_10 ?_
    refine lv_icmp_ge (tgt := 40) hx hb dX6_nameOf_11 (by decide) (fun c2 => ?_) (fun c2 => ?_)
    · replace h := it c2 h
      refine lv_iconst (v := (-1 : Int32)) hx hb dX6_nameOf_40 (by decide) ?_
      exact m_iret' S hr hlk rfl hM hS h dX6_nameOf_41
    replace h := ie c2 h
    refine lv_aload_n hx hb dX6_nameOf_14 rfl (lv_at hl 0 rfl) ?_
    refine m_get S hK hM 41 (Nat.le_of_ble_eq_true rfl) q1773 (v := .ref (ma b 41)) rfl dX6_nameOf_15 ?_
    refine lv_bipush (v := (8 : Int32)) hx hb dX6_nameOf_18 (by decide) ?_
    refine lv_iload_n hx hb dX6_nameOf_20 rfl (lv_at hl 1 rfl) ?_
    refine lv_imul hx hb dX6_nameOf_21 ?_
    refine lv_iload hx hb dX6_nameOf_22 (lv_at hl 3 rfl) ?_
    refine lv_iadd hx hb dX6_nameOf_24 ?_
    replace h := ob h
    obtain ⟨v3, hv3, h⟩ := h
    refine m_lald S hK hM 41 rfl hv3 dX6_nameOf_25 ?_
    refine lv_lload_n hx hb dX6_nameOf_26 rfl (lv_at hl 2 rfl) ?_
    refine m_lcmp S dX6_nameOf_27 ?_
    refine lv_if_ne (tgt := 34) hx hb dX6_nameOf_28 (by decide) (fun c4 => ?_) (fun c4 => ?_)
    rotate_left 1
    · replace h := it ((lg_cmp_eq _ _).mp c4) h
      refine lv_iload hx hb dX6_nameOf_31 (lv_at hl 3 rfl) ?_
      exact m_iret' S hr hlk rfl hM hS h dX6_nameOf_33
    replace h := ie (fun q => c4 ((lg_cmp_eq _ _).mpr q)) h
    refine lv_iinc (v := (a4 + (1 : Int32))) (lv' := [(4, .int (a4 + (1 : Int32))), (0, .ref b), (1, .int a1), (2, .long a2)]) hx hb dX6_nameOf_34 hl (k := 3) rfl rfl (by decide) rfl (fun ls hl => ?_)
    refine lv_goto (tgt := 3) hx hb dX6_nameOf_37 (by decide) ?_
    exact ih a1 a2 (a4 + (1 : Int32)) h _ _ hM hS _ (lv_sub hl [1, 2, 3, 0] rfl)
set_option maxHeartbeats 4000000 in
theorem metX6_nameOf {l : Launch} {G : mG} {b : Nat} {σ : MS} {a1 : Int32} {a2 : Int64} {x : Int32} (h : fX6_nameOf σ a1 a2 = some x) : Met l yX6_nameOf (ws_ yX6_nameOf cX6_nameOf 5 (some .int)) rmX6_nameOf (mP G b σ [.ref b, .int a1, .long a2]) (mQi G b (σ, x)) 0 0 (mB b) := by
  refine m_entry (by decide) rfl (Nat.le_of_ble_eq_true rfl) ?_
  intro p e s m below meth c S hr hlk hK hM hS ls hl
  replace hl : lv_has ls 5 [(0, .ref b), (1, .int a1), (2, .long a2)] := hl
  obtain ⟨hx, hb, hml, hown, hts⟩ := id S
  unfold fX6_nameOf at h
  refine lv_iconst (v := (0 : Int32)) hx hb dX6_nameOf_0 (by decide) ?_
  refine lv_istore (lv' := [(4, .int (0 : Int32)), (0, .ref b), (1, .int a1), (2, .long a2)]) hx hb dX6_nameOf_1 hl (by decide) rfl (fun ls hl => ?_)
  exact wX6_nameOf_3 S hr hlk hK FU a1 a2 (0 : Int32) h _ _ hM hS _ (lv_sub hl [1, 2, 3, 0] rfl)
theorem kX6_nameOf {p : Program} {l : Launch} {e : Env} {R : Room} {s : State} {m : MethodId} {args : Array Value} {below : List Frame} {meth : Method} {c : Code} {H H0 : Heap} {locs : List Loc} {Q : State → Prop} {cc : ByteArray} {nL pc : Nat} {ls : Array Slot} {rest : List Value} {G : mG} {b : Nat} {σ : MS} {a1 : Int32} {a2 : Int64} {x : Int32} (S : CallFix p m c cc nL s args lw_all RX6) (hK : mK G s) (hM : MW G b σ H) (hS : va_S (mB b) H0 H locs) (hf : fX6_nameOf σ a1 a2 = some x) (hR : rmX6_nameOf.frames + 1 ≤ R.frames ∧ 8 + (5 + 11) + rmX6_nameOf.locals ≤ R.locals) (hsize : ls.size = nL) (hr : (rest.map fun v => v.category).sum ≤ 8) (hdg : decode cc pc = .ok (.invokevirtual 308, 3)) (kk : ∀ (H1 : Heap) (locs1 : List Loc), MW G b σ H1 → va_S (mB b) H0 H1 locs1 → W p l e R s m args below meth c H1 locs1 0 0 Q (F0 m (pc + 3) ls (.int x :: rest))) : W p l e R s m args below meth c H locs 0 0 Q (F0 m pc ls (.long a2 :: .int a1 :: .ref b :: rest)) :=
  m_cVi (As := [.int a1, .long a2]) S hK hM hS (metX6_nameOf hf) (cwV 2 S.2.2.2.2 (lw_V q2099 q2101 qs75 q179 q2102) rfl rfl rfl (by decide +kernel) hR) ⟨Nat.zero_le _, Nat.zero_le _⟩ rfl hsize rfl hr hdg kk
/-! newName()J -/
abbrev rmX6_newName : Room := { frames := 5, cells := 0, slots := 0, locals := 86 }
def fX6_newName_38 (k7 : MS → Int64 → Int32 → Option (MS × Int64)) (σ : MS) (a1 : Int64) (a3 : Int32) : Option (MS × Int64) :=
  k7 σ a1 (a3 + (1 : Int32))
def fX6_newName_7 : Nat → MS → Int64 → Int32 → Option (MS × Int64)
  | 0, _, _, _ => none
  | n + 1, σ, a1, a3 =>
    if (3 : Int32) ≤ a3 then
      some (σ, a1)
    else
    if (σ.1 5) = 0 then
      (fX6_nameOf σ a3 a1).bind fun x3 =>
      if x3 = (-1 : Int32) then
        fX6_newName_38 (fun σ' b1 b3 => fX6_newName_7 n σ' b1 b3) σ a1 a3
      else
      (fX6_fail σ (3 : Int32) (σ.1 39)).bind fun x5 =>
      fX6_newName_38 (fun σ' b1 b3 => fX6_newName_7 n σ' b1 b3) x5 a1 a3
    else
    fX6_newName_38 (fun σ' b1 b3 => fX6_newName_7 n σ' b1 b3) σ a1 a3
def fX6_newName (σ : MS) : Option (MS × Int64) :=
  (fX6_name σ).bind fun x1 =>
  fX6_newName_7 FU x1.1 x1.2 (0 : Int32)
set_option maxHeartbeats 4000000 in
theorem wX6_newName_38 {p : Program} {l : Launch} {e : Env} {s : State} {m : MethodId} {args : Array Value} {below : List Frame} {meth : Method} {c : Code} {G : mG} {b : Nat} (S : CallFix p m c cX6_newName 4 s args lw_all RX6) (hr : meth.sig.returnType = some .long) (hlk : meth.locks = false) (hK : mK G s) {x : MS × Int64} {k7 : MS → Int64 → Int32 → Option (MS × Int64)} (hk7 : ∀ σ a1 a3, k7 σ a1 a3 = some x → mGo p l e rmX6_newName s m args below meth c G b (MQ below (mQl G b x) args s 0 0 (mB b)) 4 7 [(0, .ref b), (1, .long a1), (3, .int a3)] [] σ) : ∀ (σ : MS) (a1 : Int64) (a3 : Int32), fX6_newName_38 k7 σ a1 a3 = some x → mGo p l e rmX6_newName s m args below meth c G b (MQ below (mQl G b x) args s 0 0 (mB b)) 4 38 [(0, .ref b), (1, .long a1), (3, .int a3)] [] σ := by
  obtain ⟨hx, hb, hml, hown, hts⟩ := id S
  intro σ a1 a3 h H locs hM hS ls hl
  unfold fX6_newName_38 at h
  refine lv_iinc (v := (a3 + (1 : Int32))) (lv' := [(3, .int (a3 + (1 : Int32))), (0, .ref b), (1, .long a1)]) hx hb dX6_newName_38 hl (k := 2) rfl rfl (by decide) rfl (fun ls hl => ?_)
  refine lv_goto (tgt := 7) hx hb dX6_newName_41 (by decide) ?_
  exact hk7 σ a1 (a3 + (1 : Int32)) h _ _ hM hS _ (lv_sub hl [1, 2, 0] rfl)
set_option maxHeartbeats 4000000 in
theorem wX6_newName_7 {p : Program} {l : Launch} {e : Env} {s : State} {m : MethodId} {args : Array Value} {below : List Frame} {meth : Method} {c : Code} {G : mG} {b : Nat} (S : CallFix p m c cX6_newName 4 s args lw_all RX6) (hr : meth.sig.returnType = some .long) (hlk : meth.locks = false) (hK : mK G s) {x : MS × Int64} : ∀ (n : Nat) (σ : MS) (a1 : Int64) (a3 : Int32), fX6_newName_7 n σ a1 a3 = some x → mGo p l e rmX6_newName s m args below meth c G b (MQ below (mQl G b x) args s 0 0 (mB b)) 4 7 [(0, .ref b), (1, .long a1), (3, .int a3)] [] σ := by
  obtain ⟨hx, hb, hml, hown, hts⟩ := id S
  intro n
  induction n with
  | zero => intro σ a1 a3 h; cases h
  | succ n ih =>
    intro σ a1 a3 h H locs hM hS ls hl
    rw [fX6_newName_7] at h
    refine lv_iload_n hx hb dX6_newName_7 rfl (lv_at hl 2 rfl) ?_
    refine lv_iconst (v := (3 : Int32)) hx hb dX6_newName_8 (by decide) ?_
    refine lv_icmp_ge (tgt := 44) hx hb dX6_newName_9 (by decide) (fun c1 => ?_) (fun c1 => ?_)
    · replace h := it c1 h
      refine lv_lload_n hx hb dX6_newName_44 rfl (lv_at hl 1 rfl) ?_
      exact m_lret S hr hlk hM hS h dX6_newName_45
    replace h := ie c1 h
    refine lv_aload_n hx hb dX6_newName_12 rfl (lv_at hl 0 rfl) ?_
    refine m_get S hK hM 5 (Nat.le_of_ble_eq_true rfl) q1737 (v := .int (σ.1 5)) rfl dX6_newName_13 ?_
    refine lv_if_ne (tgt := 38) hx hb dX6_newName_16 (by decide) (fun c2 => ?_) (fun c2 => ?_)
    · replace h := ie c2 h
      exact wX6_newName_38 S hr hlk hK ih σ a1 a3 h _ _ hM hS _ (lv_sub hl [0, 1, 2] rfl)
    replace h := it c2 h
    refine lv_aload_n hx hb dX6_newName_19 rfl (lv_at hl 0 rfl) ?_
    refine lv_iload_n hx hb dX6_newName_20 rfl (lv_at hl 2 rfl) ?_
    refine lv_lload_n hx hb dX6_newName_21 rfl (lv_at hl 1 rfl) ?_
    replace h := ob h
    obtain ⟨x3, hx3, h⟩ := h
    refine kX6_nameOf S hK hM hS hx3 ⟨Nat.le_of_ble_eq_true rfl, Nat.le_of_ble_eq_true rfl⟩ hl.1 (Nat.le_of_ble_eq_true rfl) dX6_newName_22 (fun H locs hM hS => ?_)
    refine lv_iconst (v := (-1 : Int32)) hx hb dX6_newName_25 (by decide) ?_
    refine lv_icmp_eq (tgt := 38) hx hb dX6_newName_26 (by decide) (fun c4 => ?_) (fun c4 => ?_)
    · replace h := it c4 h
      exact wX6_newName_38 S hr hlk hK ih σ a1 a3 h _ _ hM hS _ (lv_sub hl [0, 1, 2] rfl)
    replace h := ie c4 h
    refine lv_aload_n hx hb dX6_newName_29 rfl (lv_at hl 0 rfl) ?_
    refine lv_iconst (v := (3 : Int32)) hx hb dX6_newName_30 (by decide) ?_
    refine lv_aload_n hx hb dX6_newName_31 rfl (lv_at hl 0 rfl) ?_
    refine m_get S hK hM 39 (Nat.le_of_ble_eq_true rfl) q1771 (v := .int (σ.1 39)) rfl dX6_newName_32 ?_
    replace h := ob h
    obtain ⟨x5, hx5, h⟩ := h
    refine kX6_fail S hK hM hS hx5 ⟨Nat.le_of_ble_eq_true rfl, Nat.le_of_ble_eq_true rfl⟩ hl.1 (Nat.le_of_ble_eq_true rfl) dX6_newName_35 (fun H locs hM hS => ?_)
    exact wX6_newName_38 S hr hlk hK ih x5 a1 a3 h _ _ hM hS _ (lv_sub hl [0, 1, 2] rfl)
set_option maxHeartbeats 4000000 in
theorem metX6_newName {l : Launch} {G : mG} {b : Nat} {σ : MS} {x : MS × Int64} (h : fX6_newName σ = some x) : Met l yX6_newName (ws_ yX6_newName cX6_newName 4 (some .long)) rmX6_newName (mP G b σ [.ref b]) (mQl G b x) 0 0 (mB b) := by
  refine m_entry (by decide) rfl (Nat.le_of_ble_eq_true rfl) ?_
  intro p e s m below meth c S hr hlk hK hM hS ls hl
  replace hl : lv_has ls 4 [(0, .ref b)] := hl
  obtain ⟨hx, hb, hml, hown, hts⟩ := id S
  unfold fX6_newName at h
  refine lv_aload_n hx hb dX6_newName_0 rfl (lv_at hl 0 rfl) ?_
  replace h := ob h
  obtain ⟨x1, hx1, h⟩ := h
  refine kX6_name S hK hM hS hx1 ⟨Nat.le_of_ble_eq_true rfl, Nat.le_of_ble_eq_true rfl⟩ hl.1 (Nat.le_of_ble_eq_true rfl) dX6_newName_1 (fun H locs hM hS => ?_)
  refine lv_lstore_n (lv' := [(1, .long x1.2), (0, .ref b)]) hx hb dX6_newName_4 rfl hl (by decide) rfl (fun ls hl => ?_)
  refine lv_iconst (v := (0 : Int32)) hx hb dX6_newName_5 (by decide) ?_
  refine lv_istore_n (lv' := [(3, .int (0 : Int32)), (1, .long x1.2), (0, .ref b)]) hx hb dX6_newName_6 rfl hl (by decide) rfl (fun ls hl => ?_)
  exact wX6_newName_7 S hr hlk hK FU x1.1 x1.2 (0 : Int32) h _ _ hM hS _ (lv_sub hl [2, 1, 0] rfl)
theorem kX6_newName {p : Program} {l : Launch} {e : Env} {R : Room} {s : State} {m : MethodId} {args : Array Value} {below : List Frame} {meth : Method} {c : Code} {H H0 : Heap} {locs : List Loc} {Q : State → Prop} {cc : ByteArray} {nL pc : Nat} {ls : Array Slot} {rest : List Value} {G : mG} {b : Nat} {σ : MS} {x : MS × Int64} (S : CallFix p m c cc nL s args lw_all RX6) (hK : mK G s) (hM : MW G b σ H) (hS : va_S (mB b) H0 H locs) (hf : fX6_newName σ = some x) (hR : rmX6_newName.frames + 1 ≤ R.frames ∧ 8 + (4 + 11) + rmX6_newName.locals ≤ R.locals) (hsize : ls.size = nL) (hr : (rest.map fun v => v.category).sum ≤ 8) (hdg : decode cc pc = .ok (.invokevirtual 316, 3)) (kk : ∀ (H1 : Heap) (locs1 : List Loc), MW G b x.1 H1 → va_S (mB b) H0 H1 locs1 → W p l e R s m args below meth c H1 locs1 0 0 Q (F0 m (pc + 3) ls (.long x.2 :: rest))) : W p l e R s m args below meth c H locs 0 0 Q (F0 m pc ls (.ref b :: rest)) :=
  m_cVl (As := []) S hK hM hS (metX6_newName hf) (cwV 0 S.2.2.2.2 (lw_V q2085 q2087 qs72 q179 q2088) rfl rfl rfl (by decide +kernel) hR) ⟨Nat.zero_le _, Nat.zero_le _⟩ rfl hsize rfl hr hdg kk
/-! oneOf(I)I -/
abbrev rmX6_oneOf : Room := { frames := 5, cells := 0, slots := 0, locals := 86 }
def fX6_oneOf_35 (σ : MS) (a4 : Int32) : Option (MS × Int32) :=
  if (σ.1 5) = 0 then
    some (σ, a4)
  else
  some (σ, (0 : Int32))
def fX6_oneOf (σ : MS) (a1 : Int32) : Option (MS × Int32) :=
  (fX6_name σ).bind fun x1 =>
  (fX6_nameOf x1.1 a1 x1.2).bind fun x2 =>
  if (x1.1.1 5) = 0 then
    if x2 = (-1 : Int32) then
      (fX6_fail x1.1 (3 : Int32) (x1.1.1 39)).bind fun x5 =>
      fX6_oneOf_35 x5 x2
    else
    fX6_oneOf_35 x1.1 x2
  else
  fX6_oneOf_35 x1.1 x2
set_option maxHeartbeats 4000000 in
theorem wX6_oneOf_35 {p : Program} {l : Launch} {e : Env} {s : State} {m : MethodId} {args : Array Value} {below : List Frame} {meth : Method} {c : Code} {G : mG} {b : Nat} (S : CallFix p m c cX6_oneOf 5 s args lw_all RX6) (hr : meth.sig.returnType = some .int) (hlk : meth.locks = false) (hK : mK G s) {x : MS × Int32} : ∀ (σ : MS) (a4 : Int32), fX6_oneOf_35 σ a4 = some x → mGo p l e rmX6_oneOf s m args below meth c G b (MQ below (mQi G b x) args s 0 0 (mB b)) 5 35 [(0, .ref b), (4, .int a4)] [] σ := by
  obtain ⟨hx, hb, hml, hown, hts⟩ := id S
  intro σ a4 h H locs hM hS ls hl
  unfold fX6_oneOf_35 at h
  refine lv_aload_n hx hb dX6_oneOf_35 rfl (lv_at hl 0 rfl) ?_
  refine m_get S hK hM 5 (Nat.le_of_ble_eq_true rfl) q1737 (v := .int (σ.1 5)) rfl dX6_oneOf_36 ?_
  refine lv_if_ne (tgt := 47) hx hb dX6_oneOf_39 (by decide) (fun c1 => ?_) (fun c1 => ?_)
  · replace h := ie c1 h
    refine lv_iconst (v := (0 : Int32)) hx hb dX6_oneOf_47 (by decide) ?_
    exact m_iret S hr hlk rfl hM hS h dX6_oneOf_48
  replace h := it c1 h
  refine lv_iload hx hb dX6_oneOf_42 (lv_at hl 1 rfl) ?_
  refine lv_goto (tgt := 48) hx hb dX6_oneOf_44 (by decide) ?_
  exact m_iret S hr hlk rfl hM hS h dX6_oneOf_48
set_option maxHeartbeats 4000000 in
theorem metX6_oneOf {l : Launch} {G : mG} {b : Nat} {σ : MS} {a1 : Int32} {x : MS × Int32} (h : fX6_oneOf σ a1 = some x) : Met l yX6_oneOf (ws_ yX6_oneOf cX6_oneOf 5 (some .int)) rmX6_oneOf (mP G b σ [.ref b, .int a1]) (mQi G b x) 0 0 (mB b) := by
  refine m_entry (by decide) rfl (Nat.le_of_ble_eq_true rfl) ?_
  intro p e s m below meth c S hr hlk hK hM hS ls hl
  replace hl : lv_has ls 5 [(0, .ref b), (1, .int a1)] := hl
  obtain ⟨hx, hb, hml, hown, hts⟩ := id S
  unfold fX6_oneOf at h
  refine lv_aload_n hx hb dX6_oneOf_0 rfl (lv_at hl 0 rfl) ?_
  replace h := ob h
  obtain ⟨x1, hx1, h⟩ := h
  refine kX6_name S hK hM hS hx1 ⟨Nat.le_of_ble_eq_true rfl, Nat.le_of_ble_eq_true rfl⟩ hl.1 (Nat.le_of_ble_eq_true rfl) dX6_oneOf_1 (fun H locs hM hS => ?_)
  refine lv_lstore_n (lv' := [(2, .long x1.2), (0, .ref b), (1, .int a1)]) hx hb dX6_oneOf_4 rfl hl (by decide) rfl (fun ls hl => ?_)
  refine lv_aload_n hx hb dX6_oneOf_5 rfl (lv_at hl 1 rfl) ?_
  refine lv_iload_n hx hb dX6_oneOf_6 rfl (lv_at hl 2 rfl) ?_
  refine lv_lload_n hx hb dX6_oneOf_7 rfl (lv_at hl 0 rfl) ?_
  replace h := ob h
  obtain ⟨x2, hx2, h⟩ := h
  refine kX6_nameOf S hK hM hS hx2 ⟨Nat.le_of_ble_eq_true rfl, Nat.le_of_ble_eq_true rfl⟩ hl.1 (Nat.le_of_ble_eq_true rfl) dX6_oneOf_8 (fun H locs hM hS => ?_)
  refine lv_istore (lv' := [(4, .int x2), (2, .long x1.2), (0, .ref b), (1, .int a1)]) hx hb dX6_oneOf_11 hl (by decide) rfl (fun ls hl => ?_)
  refine lv_aload_n hx hb dX6_oneOf_13 rfl (lv_at hl 2 rfl) ?_
  refine m_get S hK hM 5 (Nat.le_of_ble_eq_true rfl) q1737 (v := .int (x1.1.1 5)) rfl dX6_oneOf_14 ?_
  refine lv_if_ne (tgt := 35) hx hb dX6_oneOf_17 (by decide) (fun c3 => ?_) (fun c3 => ?_)
  · replace h := ie c3 h
    exact wX6_oneOf_35 S hr hlk hK x1.1 x2 h _ _ hM hS _ (lv_sub hl [2, 0] rfl)
  replace h := it c3 h
  refine lv_iload hx hb dX6_oneOf_20 (lv_at hl 0 rfl) ?_
  refine lv_iconst (v := (-1 : Int32)) hx hb dX6_oneOf_22 (by decide) ?_
  refine lv_icmp_ne (tgt := 35) hx hb dX6_oneOf_23 (by decide) (fun c4 => ?_) (fun c4 => ?_)
  · replace h := ie c4 h
    exact wX6_oneOf_35 S hr hlk hK x1.1 x2 h _ _ hM hS _ (lv_sub hl [2, 0] rfl)
  replace h := it c4 h
  refine lv_aload_n hx hb dX6_oneOf_26 rfl (lv_at hl 2 rfl) ?_
  refine lv_iconst (v := (3 : Int32)) hx hb dX6_oneOf_27 (by decide) ?_
  refine lv_aload_n hx hb dX6_oneOf_28 rfl (lv_at hl 2 rfl) ?_
  refine m_get S hK hM 39 (Nat.le_of_ble_eq_true rfl) q1771 (v := .int (x1.1.1 39)) rfl dX6_oneOf_29 ?_
  replace h := ob h
  obtain ⟨x5, hx5, h⟩ := h
  refine kX6_fail S hK hM hS hx5 ⟨Nat.le_of_ble_eq_true rfl, Nat.le_of_ble_eq_true rfl⟩ hl.1 (Nat.le_of_ble_eq_true rfl) dX6_oneOf_32 (fun H locs hM hS => ?_)
  exact wX6_oneOf_35 S hr hlk hK x5 x2 h _ _ hM hS _ (lv_sub hl [2, 0] rfl)
theorem kX6_oneOf {p : Program} {l : Launch} {e : Env} {R : Room} {s : State} {m : MethodId} {args : Array Value} {below : List Frame} {meth : Method} {c : Code} {H H0 : Heap} {locs : List Loc} {Q : State → Prop} {cc : ByteArray} {nL pc : Nat} {ls : Array Slot} {rest : List Value} {G : mG} {b : Nat} {σ : MS} {a1 : Int32} {x : MS × Int32} (S : CallFix p m c cc nL s args lw_all RX6) (hK : mK G s) (hM : MW G b σ H) (hS : va_S (mB b) H0 H locs) (hf : fX6_oneOf σ a1 = some x) (hR : rmX6_oneOf.frames + 1 ≤ R.frames ∧ 8 + (5 + 11) + rmX6_oneOf.locals ≤ R.locals) (hsize : ls.size = nL) (hr : (rest.map fun v => v.category).sum ≤ 8) (hdg : decode cc pc = .ok (.invokevirtual 331, 3)) (kk : ∀ (H1 : Heap) (locs1 : List Loc), MW G b x.1 H1 → va_S (mB b) H0 H1 locs1 → W p l e R s m args below meth c H1 locs1 0 0 Q (F0 m (pc + 3) ls (.int x.2 :: rest))) : W p l e R s m args below meth c H locs 0 0 Q (F0 m pc ls (.int a1 :: .ref b :: rest)) :=
  m_cVi (As := [.int a1]) S hK hM hS (metX6_oneOf hf) (cwV 1 S.2.2.2.2 (lw_V q2125 q2127 qs80 q179 q2128) rfl rfl rfl (by decide +kernel) hR) ⟨Nat.zero_le _, Nat.zero_le _⟩ rfl hsize rfl hr hdg kk
/-! filmTold(I)V -/
abbrev rmX6_filmTold : Room := { frames := 6, cells := 0, slots := 0, locals := 110 }
def fX6_filmTold_165 (k83 : MS → Int64 → Int32 → Int32 → Int32 → Option (MS)) (σ : MS) (a2 : Int64) (a4 : Int32) (a5 : Int32) : Option (MS) :=
  (fX6_look σ).bind fun x1 =>
  (fX6_isLetter x1.1 x1.2).bind fun x2 =>
  k83 x1.1 a2 a4 a5 x2
def fX6_filmTold_134 (k83 : MS → Int64 → Int32 → Int32 → Int32 → Option (MS)) (σ : MS) (a2 : Int64) (a4 : Int32) (a5 : Int32) (a7 : Int32) : Option (MS) :=
  (fX6_number σ (1 : Int32) (9 : Int32)).bind fun x1 =>
  if (x1.1.1 5) = 0 then
    (tI x1.1 43 (((6 : Int32) * a5) + a7) x1.2).bind fun σ3 =>
    fX6_filmTold_165 k83 σ3 a2 a4 a5
  else
  fX6_filmTold_165 k83 x1.1 a2 a4 a5
def fX6_filmTold_177 (σ : MS) (a2 : Int64) (a4 : Int32) (a5 : Int32) : Option (MS) :=
  if (σ.1 5) = 0 then
    (tI σ 42 a5 a4).bind fun σ2 =>
    (fX6_adds σ2 (1 : Int32) a2).bind fun x3 =>
    some x3
  else
  some σ
def fX6_filmTold_83 : Nat → MS → Int64 → Int32 → Int32 → Int32 → Option (MS)
  | 0, _, _, _, _, _ => none
  | n + 1, σ, a2, a4, a5, a6 =>
    if (σ.1 5) = 0 then
      if a6 = 0 then
        fX6_filmTold_177 σ a2 a4 a5
      else
      (fX6_oneOf σ (0 : Int32)).bind fun x3 =>
      if (x3.1.1 5) = 0 then
        (aI x3.1 43 (((6 : Int32) * a5) + x3.2)).bind fun v5 =>
        if v5 ≤ 0 then
          fX6_filmTold_134 (fun σ' b2 b4 b5 b6 => fX6_filmTold_83 n σ' b2 b4 b5 b6) x3.1 a2 a4 a5 x3.2
        else
        (fX6_fail x3.1 (3 : Int32) (x3.1.1 39)).bind fun x7 =>
        fX6_filmTold_134 (fun σ' b2 b4 b5 b6 => fX6_filmTold_83 n σ' b2 b4 b5 b6) x7 a2 a4 a5 x3.2
      else
      fX6_filmTold_134 (fun σ' b2 b4 b5 b6 => fX6_filmTold_83 n σ' b2 b4 b5 b6) x3.1 a2 a4 a5 x3.2
    else
    fX6_filmTold_177 σ a2 a4 a5
def fX6_filmTold_53 : Nat → MS → Int64 → Int32 → Int32 → Int32 → Option (MS)
  | 0, _, _, _, _, _ => none
  | n + 1, σ, a2, a4, a5, a6 =>
    if (6 : Int32) ≤ a6 then
      fX6_filmTold_83 FU σ a2 a4 a5 (1 : Int32)
    else
    (tI σ 43 (((6 : Int32) * a5) + a6) (0 : Int32)).bind fun σ2 =>
    fX6_filmTold_53 n σ2 a2 a4 a5 (a6 + (1 : Int32))
def fX6_filmTold (σ : MS) (a1 : Int32) : Option (MS) :=
  (fX6_isFull σ (1 : Int32) (8 : Int32) a1).bind fun x1 =>
  if x1.2 = 0 then
    (fX6_newName x1.1).bind fun x3 =>
    (fX6_asks x3.1 12).bind fun x4 =>
    (fX6_number x4 (1 : Int32) (9 : Int32)).bind fun x5 =>
    (fX6_asks x5.1 13).bind fun x6 =>
    (aI x6 40 (1 : Int32)).bind fun v7 =>
    fX6_filmTold_53 FU x6 x3.2 x5.2 v7 (0 : Int32)
  else
  some x1.1
set_option maxHeartbeats 4000000 in
theorem wX6_filmTold_165 {p : Program} {l : Launch} {e : Env} {s : State} {m : MethodId} {args : Array Value} {below : List Frame} {meth : Method} {c : Code} {G : mG} {b : Nat} (S : CallFix p m c cX6_filmTold 9 s args lw_all RX6) (hr : meth.sig.returnType = none) (hlk : meth.locks = false) (hK : mK G s) {x : MS} {k83 : MS → Int64 → Int32 → Int32 → Int32 → Option (MS)} (hk83 : ∀ σ a2 a4 a5 a6, k83 σ a2 a4 a5 a6 = some x → mGo p l e rmX6_filmTold s m args below meth c G b (MQ below (mQv G b x) args s 0 0 (mB b)) 9 83 [(0, .ref b), (2, .long a2), (4, .int a4), (5, .int a5), (6, .int a6)] [] σ) : ∀ (σ : MS) (a2 : Int64) (a4 : Int32) (a5 : Int32), fX6_filmTold_165 k83 σ a2 a4 a5 = some x → mGo p l e rmX6_filmTold s m args below meth c G b (MQ below (mQv G b x) args s 0 0 (mB b)) 9 165 [(0, .ref b), (2, .long a2), (4, .int a4), (5, .int a5)] [] σ := by
  obtain ⟨hx, hb, hml, hown, hts⟩ := id S
  intro σ a2 a4 a5 h H locs hM hS ls hl
  unfold fX6_filmTold_165 at h
  refine lv_aload_n hx hb dX6_filmTold_165 rfl (lv_at hl 0 rfl) ?_
  replace h := ob h
  obtain ⟨x1, hx1, h⟩ := h
  refine kX6_look S hK hM hS hx1 ⟨Nat.le_of_ble_eq_true rfl, Nat.le_of_ble_eq_true rfl⟩ hl.1 (Nat.le_of_ble_eq_true rfl) dX6_filmTold_166 (fun H locs hM hS => ?_)
  replace h := ob h
  obtain ⟨x2, hx2, h⟩ := h
  refine kX6_isLetter S hK hM hS hx2 ⟨Nat.le_of_ble_eq_true rfl, Nat.le_of_ble_eq_true rfl⟩ hl.1 (Nat.le_of_ble_eq_true rfl) dX6_filmTold_169 (fun H locs hM hS => ?_)
  refine lv_istore (lv' := [(6, .int x2), (0, .ref b), (2, .long a2), (4, .int a4), (5, .int a5)]) hx hb dX6_filmTold_172 hl (by decide) rfl (fun ls hl => ?_)
  refine lv_goto (tgt := 83) hx hb dX6_filmTold_174 (by decide) ?_
  exact hk83 x1.1 a2 a4 a5 x2 h _ _ hM hS _ (lv_sub hl [1, 2, 3, 4, 0] rfl)
set_option maxHeartbeats 4000000 in
theorem wX6_filmTold_134 {p : Program} {l : Launch} {e : Env} {s : State} {m : MethodId} {args : Array Value} {below : List Frame} {meth : Method} {c : Code} {G : mG} {b : Nat} (S : CallFix p m c cX6_filmTold 9 s args lw_all RX6) (hr : meth.sig.returnType = none) (hlk : meth.locks = false) (hK : mK G s) {x : MS} {k83 : MS → Int64 → Int32 → Int32 → Int32 → Option (MS)} (hk83 : ∀ σ a2 a4 a5 a6, k83 σ a2 a4 a5 a6 = some x → mGo p l e rmX6_filmTold s m args below meth c G b (MQ below (mQv G b x) args s 0 0 (mB b)) 9 83 [(0, .ref b), (2, .long a2), (4, .int a4), (5, .int a5), (6, .int a6)] [] σ) : ∀ (σ : MS) (a2 : Int64) (a4 : Int32) (a5 : Int32) (a7 : Int32), fX6_filmTold_134 k83 σ a2 a4 a5 a7 = some x → mGo p l e rmX6_filmTold s m args below meth c G b (MQ below (mQv G b x) args s 0 0 (mB b)) 9 134 [(0, .ref b), (2, .long a2), (4, .int a4), (5, .int a5), (7, .int a7)] [] σ := by
  obtain ⟨hx, hb, hml, hown, hts⟩ := id S
  intro σ a2 a4 a5 a7 h H locs hM hS ls hl
  unfold fX6_filmTold_134 at h
  refine lv_aload_n hx hb dX6_filmTold_134 rfl (lv_at hl 0 rfl) ?_
  refine lv_iconst (v := (1 : Int32)) hx hb dX6_filmTold_135 (by decide) ?_
  refine lv_bipush (v := (9 : Int32)) hx hb dX6_filmTold_136 (by decide) ?_
  replace h := ob h
  obtain ⟨x1, hx1, h⟩ := h
  refine kX6_number S hK hM hS hx1 ⟨Nat.le_of_ble_eq_true rfl, Nat.le_of_ble_eq_true rfl⟩ hl.1 (Nat.le_of_ble_eq_true rfl) dX6_filmTold_138 (fun H locs hM hS => ?_)
  refine lv_istore (lv' := [(8, .int x1.2), (0, .ref b), (2, .long a2), (4, .int a4), (5, .int a5), (7, .int a7)]) hx hb dX6_filmTold_141 hl (by decide) rfl (fun ls hl => ?_)
  refine lv_aload_n hx hb dX6_filmTold_143 rfl (lv_at hl 1 rfl) ?_
  refine m_get S hK hM 5 (Nat.le_of_ble_eq_true rfl) q1737 (v := .int (x1.1.1 5)) rfl dX6_filmTold_144 ?_
  refine lv_if_ne (tgt := 165) hx hb dX6_filmTold_147 (by decide) (fun c2 => ?_) (fun c2 => ?_)
  · replace h := ie c2 h
    exact wX6_filmTold_165 S hr hlk hK hk83 x1.1 a2 a4 a5 h _ _ hM hS _ (lv_sub hl [1, 2, 3, 4] rfl)
  replace h := it c2 h
  refine lv_aload_n hx hb dX6_filmTold_150 rfl (lv_at hl 1 rfl) ?_
  refine m_get S hK hM 43 (Nat.le_of_ble_eq_true rfl) q1775 (v := .ref (ma b 43)) rfl dX6_filmTold_151 ?_
  refine lv_bipush (v := (6 : Int32)) hx hb dX6_filmTold_154 (by decide) ?_
  refine lv_iload hx hb dX6_filmTold_156 (lv_at hl 4 rfl) ?_
  refine lv_imul hx hb dX6_filmTold_158 ?_
  refine lv_iload hx hb dX6_filmTold_159 (lv_at hl 5 rfl) ?_
  refine lv_iadd hx hb dX6_filmTold_161 ?_
  refine lv_iload hx hb dX6_filmTold_162 (lv_at hl 0 rfl) ?_
  replace h := ob h
  obtain ⟨σ3, hσ3, h⟩ := h
  refine m_iast S hK hM hS 43 rfl hσ3 dX6_filmTold_164 (fun H locs hM hS => ?_)
  exact wX6_filmTold_165 S hr hlk hK hk83 σ3 a2 a4 a5 h _ _ hM hS _ (lv_sub hl [1, 2, 3, 4] rfl)
set_option maxHeartbeats 4000000 in
theorem wX6_filmTold_177 {p : Program} {l : Launch} {e : Env} {s : State} {m : MethodId} {args : Array Value} {below : List Frame} {meth : Method} {c : Code} {G : mG} {b : Nat} (S : CallFix p m c cX6_filmTold 9 s args lw_all RX6) (hr : meth.sig.returnType = none) (hlk : meth.locks = false) (hK : mK G s) {x : MS} : ∀ (σ : MS) (a2 : Int64) (a4 : Int32) (a5 : Int32), fX6_filmTold_177 σ a2 a4 a5 = some x → mGo p l e rmX6_filmTold s m args below meth c G b (MQ below (mQv G b x) args s 0 0 (mB b)) 9 177 [(0, .ref b), (2, .long a2), (4, .int a4), (5, .int a5)] [] σ := by
  obtain ⟨hx, hb, hml, hown, hts⟩ := id S
  intro σ a2 a4 a5 h H locs hM hS ls hl
  unfold fX6_filmTold_177 at h
  refine lv_aload_n hx hb dX6_filmTold_177 rfl (lv_at hl 0 rfl) ?_
  refine m_get S hK hM 5 (Nat.le_of_ble_eq_true rfl) q1737 (v := .int (σ.1 5)) rfl dX6_filmTold_178 ?_
  refine lv_if_eq (tgt := 185) hx hb dX6_filmTold_181 (by decide) (fun c1 => ?_) (fun c1 => ?_)
  rotate_left 1
  · replace h := ie c1 h
    exact m_vret S hr hlk hM hS h dX6_filmTold_184
  replace h := it c1 h
  refine lv_aload_n hx hb dX6_filmTold_185 rfl (lv_at hl 0 rfl) ?_
  refine m_get S hK hM 42 (Nat.le_of_ble_eq_true rfl) q1774 (v := .ref (ma b 42)) rfl dX6_filmTold_186 ?_
  refine lv_iload hx hb dX6_filmTold_189 (lv_at hl 3 rfl) ?_
  refine lv_iload hx hb dX6_filmTold_191 (lv_at hl 2 rfl) ?_
  replace h := ob h
  obtain ⟨σ2, hσ2, h⟩ := h
  refine m_iast S hK hM hS 42 rfl hσ2 dX6_filmTold_193 (fun H locs hM hS => ?_)
  refine lv_aload_n hx hb dX6_filmTold_194 rfl (lv_at hl 0 rfl) ?_
  refine lv_iconst (v := (1 : Int32)) hx hb dX6_filmTold_195 (by decide) ?_
  refine lv_lload_n hx hb dX6_filmTold_196 rfl (lv_at hl 1 rfl) ?_
  replace h := ob h
  obtain ⟨x3, hx3, h⟩ := h
  refine kX6_adds S hK hM hS hx3 ⟨Nat.le_of_ble_eq_true rfl, Nat.le_of_ble_eq_true rfl⟩ hl.1 (Nat.le_of_ble_eq_true rfl) dX6_filmTold_197 (fun H locs hM hS => ?_)
  exact m_vret S hr hlk hM hS h dX6_filmTold_200
set_option maxHeartbeats 4000000 in
theorem wX6_filmTold_83 {p : Program} {l : Launch} {e : Env} {s : State} {m : MethodId} {args : Array Value} {below : List Frame} {meth : Method} {c : Code} {G : mG} {b : Nat} (S : CallFix p m c cX6_filmTold 9 s args lw_all RX6) (hr : meth.sig.returnType = none) (hlk : meth.locks = false) (hK : mK G s) {x : MS} : ∀ (n : Nat) (σ : MS) (a2 : Int64) (a4 : Int32) (a5 : Int32) (a6 : Int32), fX6_filmTold_83 n σ a2 a4 a5 a6 = some x → mGo p l e rmX6_filmTold s m args below meth c G b (MQ below (mQv G b x) args s 0 0 (mB b)) 9 83 [(0, .ref b), (2, .long a2), (4, .int a4), (5, .int a5), (6, .int a6)] [] σ := by
  obtain ⟨hx, hb, hml, hown, hts⟩ := id S
  intro n
  induction n with
  | zero => intro σ a2 a4 a5 a6 h; cases h
  | succ n ih =>
    intro σ a2 a4 a5 a6 h H locs hM hS ls hl
    rw [fX6_filmTold_83] at h
    refine lv_aload_n hx hb dX6_filmTold_83 rfl (lv_at hl 0 rfl) ?_
    refine m_get S hK hM 5 (Nat.le_of_ble_eq_true rfl) q1737 (v := .int (σ.1 5)) rfl dX6_filmTold_84 ?_
    refine lv_if_ne (tgt := 177) hx hb dX6_filmTold_87 (by decide) (fun c1 => ?_) (fun c1 => ?_)
    · replace h := ie c1 h
      exact wX6_filmTold_177 S hr hlk hK σ a2 a4 a5 h _ _ hM hS _ (lv_sub hl [0, 1, 2, 3] rfl)
    replace h := it c1 h
    refine lv_iload hx hb dX6_filmTold_90 (lv_at hl 4 rfl) ?_
    refine lv_if_eq (tgt := 177) hx hb dX6_filmTold_92 (by decide) (fun c2 => ?_) (fun c2 => ?_)
    · replace h := it c2 h
      exact wX6_filmTold_177 S hr hlk hK σ a2 a4 a5 h _ _ hM hS _ (lv_sub hl [0, 1, 2, 3] rfl)
    replace h := ie c2 h
    refine lv_aload_n hx hb dX6_filmTold_95 rfl (lv_at hl 0 rfl) ?_
    refine lv_iconst (v := (0 : Int32)) hx hb dX6_filmTold_96 (by decide) ?_
    replace h := ob h
    obtain ⟨x3, hx3, h⟩ := h
    refine kX6_oneOf S hK hM hS hx3 ⟨Nat.le_of_ble_eq_true rfl, Nat.le_of_ble_eq_true rfl⟩ hl.1 (Nat.le_of_ble_eq_true rfl) dX6_filmTold_97 (fun H locs hM hS => ?_)
    refine lv_istore (lv' := [(7, .int x3.2), (0, .ref b), (2, .long a2), (4, .int a4), (5, .int a5), (6, .int a6)]) hx hb dX6_filmTold_100 hl (by decide) rfl (fun ls hl => ?_)
    refine lv_aload_n hx hb dX6_filmTold_102 rfl (lv_at hl 1 rfl) ?_
    refine m_get S hK hM 5 (Nat.le_of_ble_eq_true rfl) q1737 (v := .int (x3.1.1 5)) rfl dX6_filmTold_103 ?_
    refine lv_if_ne (tgt := 134) hx hb dX6_filmTold_106 (by decide) (fun c4 => ?_) (fun c4 => ?_)
    · replace h := ie c4 h
      exact wX6_filmTold_134 S hr hlk hK ih x3.1 a2 a4 a5 x3.2 h _ _ hM hS _ (lv_sub hl [1, 2, 3, 4, 0] rfl)
    replace h := it c4 h
    refine lv_aload_n hx hb dX6_filmTold_109 rfl (lv_at hl 1 rfl) ?_
    refine m_get S hK hM 43 (Nat.le_of_ble_eq_true rfl) q1775 (v := .ref (ma b 43)) rfl dX6_filmTold_110 ?_
    refine lv_bipush (v := (6 : Int32)) hx hb dX6_filmTold_113 (by decide) ?_
    refine lv_iload hx hb dX6_filmTold_115 (lv_at hl 4 rfl) ?_
    refine lv_imul hx hb dX6_filmTold_117 ?_
    refine lv_iload hx hb dX6_filmTold_118 (lv_at hl 0 rfl) ?_
    refine lv_iadd hx hb dX6_filmTold_120 ?_
    replace h := ob h
    obtain ⟨v5, hv5, h⟩ := h
    refine m_iald S hK hM 43 rfl hv5 dX6_filmTold_121 ?_
    refine lv_if_le (tgt := 134) hx hb dX6_filmTold_122 (by decide) (fun c6 => ?_) (fun c6 => ?_)
    · replace h := it c6 h
      exact wX6_filmTold_134 S hr hlk hK ih x3.1 a2 a4 a5 x3.2 h _ _ hM hS _ (lv_sub hl [1, 2, 3, 4, 0] rfl)
    replace h := ie c6 h
    refine lv_aload_n hx hb dX6_filmTold_125 rfl (lv_at hl 1 rfl) ?_
    refine lv_iconst (v := (3 : Int32)) hx hb dX6_filmTold_126 (by decide) ?_
    refine lv_aload_n hx hb dX6_filmTold_127 rfl (lv_at hl 1 rfl) ?_
    refine m_get S hK hM 39 (Nat.le_of_ble_eq_true rfl) q1771 (v := .int (x3.1.1 39)) rfl dX6_filmTold_128 ?_
    replace h := ob h
    obtain ⟨x7, hx7, h⟩ := h
    refine kX6_fail S hK hM hS hx7 ⟨Nat.le_of_ble_eq_true rfl, Nat.le_of_ble_eq_true rfl⟩ hl.1 (Nat.le_of_ble_eq_true rfl) dX6_filmTold_131 (fun H locs hM hS => ?_)
    exact wX6_filmTold_134 S hr hlk hK ih x7 a2 a4 a5 x3.2 h _ _ hM hS _ (lv_sub hl [1, 2, 3, 4, 0] rfl)
set_option maxHeartbeats 4000000 in
theorem wX6_filmTold_53 {p : Program} {l : Launch} {e : Env} {s : State} {m : MethodId} {args : Array Value} {below : List Frame} {meth : Method} {c : Code} {G : mG} {b : Nat} (S : CallFix p m c cX6_filmTold 9 s args lw_all RX6) (hr : meth.sig.returnType = none) (hlk : meth.locks = false) (hK : mK G s) {x : MS} : ∀ (n : Nat) (σ : MS) (a2 : Int64) (a4 : Int32) (a5 : Int32) (a6 : Int32), fX6_filmTold_53 n σ a2 a4 a5 a6 = some x → mGo p l e rmX6_filmTold s m args below meth c G b (MQ below (mQv G b x) args s 0 0 (mB b)) 9 53 [(0, .ref b), (2, .long a2), (4, .int a4), (5, .int a5), (6, .int a6)] [] σ := by
  obtain ⟨hx, hb, hml, hown, hts⟩ := id S
  intro n
  induction n with
  | zero => intro σ a2 a4 a5 a6 h; cases h
  | succ n ih =>
    intro σ a2 a4 a5 a6 h H locs hM hS ls hl
    rw [fX6_filmTold_53] at h
    refine lv_iload hx hb dX6_filmTold_53 (lv_at hl 4 rfl) ?_
    refine lv_bipush (v := (6 : Int32)) hx hb dX6_filmTold_55 (by decide) ?_
    refine lv_icmp_ge (tgt := 80) hx hb dX6_filmTold_57 (by decide) (fun c1 => ?_) (fun c1 => ?_)
    · replace h := it c1 h
      refine lv_iconst (v := (1 : Int32)) hx hb dX6_filmTold_80 (by decide) ?_
      refine lv_istore (lv' := [(6, .int (1 : Int32)), (0, .ref b), (2, .long a2), (4, .int a4), (5, .int a5)]) hx hb dX6_filmTold_81 hl (by decide) rfl (fun ls hl => ?_)
      exact wX6_filmTold_83 S hr hlk hK FU σ a2 a4 a5 (1 : Int32) h _ _ hM hS _ (lv_sub hl [1, 2, 3, 4, 0] rfl)
    replace h := ie c1 h
    refine lv_aload_n hx hb dX6_filmTold_60 rfl (lv_at hl 0 rfl) ?_
    refine m_get S hK hM 43 (Nat.le_of_ble_eq_true rfl) q1775 (v := .ref (ma b 43)) rfl dX6_filmTold_61 ?_
    refine lv_bipush (v := (6 : Int32)) hx hb dX6_filmTold_64 (by decide) ?_
    refine lv_iload hx hb dX6_filmTold_66 (lv_at hl 3 rfl) ?_
    refine lv_imul hx hb dX6_filmTold_68 ?_
    refine lv_iload hx hb dX6_filmTold_69 (lv_at hl 4 rfl) ?_
    refine lv_iadd hx hb dX6_filmTold_71 ?_
    refine lv_iconst (v := (0 : Int32)) hx hb dX6_filmTold_72 (by decide) ?_
    replace h := ob h
    obtain ⟨σ2, hσ2, h⟩ := h
    refine m_iast S hK hM hS 43 rfl hσ2 dX6_filmTold_73 (fun H locs hM hS => ?_)
    refine lv_iinc (v := (a6 + (1 : Int32))) (lv' := [(6, .int (a6 + (1 : Int32))), (0, .ref b), (2, .long a2), (4, .int a4), (5, .int a5)]) hx hb dX6_filmTold_74 hl (k := 4) rfl rfl (by decide) rfl (fun ls hl => ?_)
    refine lv_goto (tgt := 53) hx hb dX6_filmTold_77 (by decide) ?_
    exact ih σ2 a2 a4 a5 (a6 + (1 : Int32)) h _ _ hM hS _ (lv_sub hl [1, 2, 3, 4, 0] rfl)
set_option maxHeartbeats 4000000 in
theorem metX6_filmTold {l : Launch} {G : mG} {b : Nat} {σ : MS} {a1 : Int32} {x : MS} (h : fX6_filmTold σ a1 = some x) : Met l yX6_filmTold (ws_ yX6_filmTold cX6_filmTold 9 (none)) rmX6_filmTold (mP G b σ [.ref b, .int a1]) (mQv G b x) 0 0 (mB b) := by
  refine m_entry (by decide) rfl (Nat.le_of_ble_eq_true rfl) ?_
  intro p e s m below meth c S hr hlk hK hM hS ls hl
  replace hl : lv_has ls 9 [(0, .ref b), (1, .int a1)] := hl
  obtain ⟨hx, hb, hml, hown, hts⟩ := id S
  unfold fX6_filmTold at h
  refine lv_aload_n hx hb dX6_filmTold_0 rfl (lv_at hl 0 rfl) ?_
  refine lv_iconst (v := (1 : Int32)) hx hb dX6_filmTold_1 (by decide) ?_
  refine lv_bipush (v := (8 : Int32)) hx hb dX6_filmTold_2 (by decide) ?_
  refine lv_iload_n hx hb dX6_filmTold_4 rfl (lv_at hl 1 rfl) ?_
  replace h := ob h
  obtain ⟨x1, hx1, h⟩ := h
  refine kX6_isFull S hK hM hS hx1 ⟨Nat.le_of_ble_eq_true rfl, Nat.le_of_ble_eq_true rfl⟩ hl.1 (Nat.le_of_ble_eq_true rfl) dX6_filmTold_5 (fun H locs hM hS => ?_)
  refine lv_if_eq (tgt := 12) hx hb dX6_filmTold_8 (by decide) (fun c2 => ?_) (fun c2 => ?_)
  rotate_left 1
  · replace h := ie c2 h
    exact m_vret S hr hlk hM hS h dX6_filmTold_11
  replace h := it c2 h
  refine lv_aload_n hx hb dX6_filmTold_12 rfl (lv_at hl 0 rfl) ?_
  replace h := ob h
  obtain ⟨x3, hx3, h⟩ := h
  refine kX6_newName S hK hM hS hx3 ⟨Nat.le_of_ble_eq_true rfl, Nat.le_of_ble_eq_true rfl⟩ hl.1 (Nat.le_of_ble_eq_true rfl) dX6_filmTold_13 (fun H locs hM hS => ?_)
  refine lv_lstore_n (lv' := [(2, .long x3.2), (0, .ref b), (1, .int a1)]) hx hb dX6_filmTold_16 rfl hl (by decide) rfl (fun ls hl => ?_)
  refine lv_aload_n hx hb dX6_filmTold_17 rfl (lv_at hl 1 rfl) ?_
  refine lv_aload_n hx hb dX6_filmTold_18 rfl (lv_at hl 1 rfl) ?_
  refine m_get S hK hM 12 (Nat.le_of_ble_eq_true rfl) q1744 (v := .ref (ma b 12)) rfl dX6_filmTold_19 ?_
  replace h := ob h
  obtain ⟨x4, hx4, h⟩ := h
  refine kX6_asks S hK hM hS hx4 ⟨Nat.le_of_ble_eq_true rfl, Nat.le_of_ble_eq_true rfl⟩ hl.1 (Nat.le_of_ble_eq_true rfl) dX6_filmTold_22 (fun H locs hM hS => ?_)
  refine lv_aload_n hx hb dX6_filmTold_25 rfl (lv_at hl 1 rfl) ?_
  refine lv_iconst (v := (1 : Int32)) hx hb dX6_filmTold_26 (by decide) ?_
  refine lv_bipush (v := (9 : Int32)) hx hb dX6_filmTold_27 (by decide) ?_
  replace h := ob h
  obtain ⟨x5, hx5, h⟩ := h
  refine kX6_number S hK hM hS hx5 ⟨Nat.le_of_ble_eq_true rfl, Nat.le_of_ble_eq_true rfl⟩ hl.1 (Nat.le_of_ble_eq_true rfl) dX6_filmTold_29 (fun H locs hM hS => ?_)
  refine lv_istore (lv' := [(4, .int x5.2), (2, .long x3.2), (0, .ref b), (1, .int a1)]) hx hb dX6_filmTold_32 hl (by decide) rfl (fun ls hl => ?_)
  refine lv_aload_n hx hb dX6_filmTold_34 rfl (lv_at hl 2 rfl) ?_
  refine lv_aload_n hx hb dX6_filmTold_35 rfl (lv_at hl 2 rfl) ?_
  refine m_get S hK hM 13 (Nat.le_of_ble_eq_true rfl) q1745 (v := .ref (ma b 13)) rfl dX6_filmTold_36 ?_
  replace h := ob h
  obtain ⟨x6, hx6, h⟩ := h
  refine kX6_asks S hK hM hS hx6 ⟨Nat.le_of_ble_eq_true rfl, Nat.le_of_ble_eq_true rfl⟩ hl.1 (Nat.le_of_ble_eq_true rfl) dX6_filmTold_39 (fun H locs hM hS => ?_)
  refine lv_aload_n hx hb dX6_filmTold_42 rfl (lv_at hl 2 rfl) ?_
  refine m_get S hK hM 40 (Nat.le_of_ble_eq_true rfl) q1772 (v := .ref (ma b 40)) rfl dX6_filmTold_43 ?_
  refine lv_iconst (v := (1 : Int32)) hx hb dX6_filmTold_46 (by decide) ?_
  replace h := ob h
  obtain ⟨v7, hv7, h⟩ := h
  refine m_iald S hK hM 40 rfl hv7 dX6_filmTold_47 ?_
  refine lv_istore (lv' := [(5, .int v7), (4, .int x5.2), (2, .long x3.2), (0, .ref b), (1, .int a1)]) hx hb dX6_filmTold_48 hl (by decide) rfl (fun ls hl => ?_)
  refine lv_iconst (v := (0 : Int32)) hx hb dX6_filmTold_50 (by decide) ?_
  refine lv_istore (lv' := [(6, .int (0 : Int32)), (5, .int v7), (4, .int x5.2), (2, .long x3.2), (0, .ref b), (1, .int a1)]) hx hb dX6_filmTold_51 hl (by decide) rfl (fun ls hl => ?_)
  exact wX6_filmTold_53 S hr hlk hK FU x6 x3.2 x5.2 v7 (0 : Int32) h _ _ hM hS _ (lv_sub hl [4, 3, 2, 1, 0] rfl)
theorem kX6_filmTold {p : Program} {l : Launch} {e : Env} {R : Room} {s : State} {m : MethodId} {args : Array Value} {below : List Frame} {meth : Method} {c : Code} {H H0 : Heap} {locs : List Loc} {Q : State → Prop} {cc : ByteArray} {nL pc : Nat} {ls : Array Slot} {rest : List Value} {G : mG} {b : Nat} {σ : MS} {a1 : Int32} {x : MS} (S : CallFix p m c cc nL s args lw_all RX6) (hK : mK G s) (hM : MW G b σ H) (hS : va_S (mB b) H0 H locs) (hf : fX6_filmTold σ a1 = some x) (hR : rmX6_filmTold.frames + 1 ≤ R.frames ∧ 8 + (9 + 11) + rmX6_filmTold.locals ≤ R.locals) (hsize : ls.size = nL) (hr : (rest.map fun v => v.category).sum ≤ 8) (hdg : decode cc pc = .ok (.invokevirtual 366, 3)) (kk : ∀ (H1 : Heap) (locs1 : List Loc), MW G b x H1 → va_S (mB b) H0 H1 locs1 → W p l e R s m args below meth c H1 locs1 0 0 Q (F0 m (pc + 3) ls (rest))) : W p l e R s m args below meth c H locs 0 0 Q (F0 m pc ls (.int a1 :: .ref b :: rest)) :=
  m_cVv (As := [.int a1]) S hK hM hS (metX6_filmTold hf) (cwV 1 S.2.2.2.2 (lw_V q2107 q2109 qs77 q179 q2110) rfl rfl rfl (by decide +kernel) hR) ⟨Nat.zero_le _, Nat.zero_le _⟩ rfl hsize rfl hr hdg kk
/-! kindTold(I)V -/
abbrev rmX6_kindTold : Room := { frames := 6, cells := 0, slots := 0, locals := 109 }
def fX6_kindTold (σ : MS) (a1 : Int32) : Option (MS) :=
  (fX6_isFull σ (0 : Int32) (6 : Int32) a1).bind fun x1 =>
  if x1.2 = 0 then
    (fX6_newName x1.1).bind fun x3 =>
    if (x3.1.1 5) = 0 then
      (fX6_adds x3.1 (0 : Int32) x3.2).bind fun x5 =>
      some x5
    else
    some x3.1
  else
  some x1.1
set_option maxHeartbeats 4000000 in
theorem metX6_kindTold {l : Launch} {G : mG} {b : Nat} {σ : MS} {a1 : Int32} {x : MS} (h : fX6_kindTold σ a1 = some x) : Met l yX6_kindTold (ws_ yX6_kindTold cX6_kindTold 4 (none)) rmX6_kindTold (mP G b σ [.ref b, .int a1]) (mQv G b x) 0 0 (mB b) := by
  refine m_entry (by decide) rfl (Nat.le_of_ble_eq_true rfl) ?_
  intro p e s m below meth c S hr hlk hK hM hS ls hl
  replace hl : lv_has ls 4 [(0, .ref b), (1, .int a1)] := hl
  obtain ⟨hx, hb, hml, hown, hts⟩ := id S
  unfold fX6_kindTold at h
  refine lv_aload_n hx hb dX6_kindTold_0 rfl (lv_at hl 0 rfl) ?_
  refine lv_iconst (v := (0 : Int32)) hx hb dX6_kindTold_1 (by decide) ?_
  refine lv_bipush (v := (6 : Int32)) hx hb dX6_kindTold_2 (by decide) ?_
  refine lv_iload_n hx hb dX6_kindTold_4 rfl (lv_at hl 1 rfl) ?_
  replace h := ob h
  obtain ⟨x1, hx1, h⟩ := h
  refine kX6_isFull S hK hM hS hx1 ⟨Nat.le_of_ble_eq_true rfl, Nat.le_of_ble_eq_true rfl⟩ hl.1 (Nat.le_of_ble_eq_true rfl) dX6_kindTold_5 (fun H locs hM hS => ?_)
  refine lv_if_eq (tgt := 12) hx hb dX6_kindTold_8 (by decide) (fun c2 => ?_) (fun c2 => ?_)
  rotate_left 1
  · replace h := ie c2 h
    exact m_vret S hr hlk hM hS h dX6_kindTold_11
  replace h := it c2 h
  refine lv_aload_n hx hb dX6_kindTold_12 rfl (lv_at hl 0 rfl) ?_
  replace h := ob h
  obtain ⟨x3, hx3, h⟩ := h
  refine kX6_newName S hK hM hS hx3 ⟨Nat.le_of_ble_eq_true rfl, Nat.le_of_ble_eq_true rfl⟩ hl.1 (Nat.le_of_ble_eq_true rfl) dX6_kindTold_13 (fun H locs hM hS => ?_)
  refine lv_lstore_n (lv' := [(2, .long x3.2), (0, .ref b), (1, .int a1)]) hx hb dX6_kindTold_16 rfl hl (by decide) rfl (fun ls hl => ?_)
  refine lv_aload_n hx hb dX6_kindTold_17 rfl (lv_at hl 1 rfl) ?_
  refine m_get S hK hM 5 (Nat.le_of_ble_eq_true rfl) q1737 (v := .int (x3.1.1 5)) rfl dX6_kindTold_18 ?_
  refine lv_if_ne (tgt := 30) hx hb dX6_kindTold_21 (by decide) (fun c4 => ?_) (fun c4 => ?_)
  · replace h := ie c4 h
    exact m_vret S hr hlk hM hS h dX6_kindTold_30
  replace h := it c4 h
  refine lv_aload_n hx hb dX6_kindTold_24 rfl (lv_at hl 1 rfl) ?_
  refine lv_iconst (v := (0 : Int32)) hx hb dX6_kindTold_25 (by decide) ?_
  refine lv_lload_n hx hb dX6_kindTold_26 rfl (lv_at hl 0 rfl) ?_
  replace h := ob h
  obtain ⟨x5, hx5, h⟩ := h
  refine kX6_adds S hK hM hS hx5 ⟨Nat.le_of_ble_eq_true rfl, Nat.le_of_ble_eq_true rfl⟩ hl.1 (Nat.le_of_ble_eq_true rfl) dX6_kindTold_27 (fun H locs hM hS => ?_)
  exact m_vret S hr hlk hM hS h dX6_kindTold_30
theorem kX6_kindTold {p : Program} {l : Launch} {e : Env} {R : Room} {s : State} {m : MethodId} {args : Array Value} {below : List Frame} {meth : Method} {c : Code} {H H0 : Heap} {locs : List Loc} {Q : State → Prop} {cc : ByteArray} {nL pc : Nat} {ls : Array Slot} {rest : List Value} {G : mG} {b : Nat} {σ : MS} {a1 : Int32} {x : MS} (S : CallFix p m c cc nL s args lw_all RX6) (hK : mK G s) (hM : MW G b σ H) (hS : va_S (mB b) H0 H locs) (hf : fX6_kindTold σ a1 = some x) (hR : rmX6_kindTold.frames + 1 ≤ R.frames ∧ 8 + (4 + 11) + rmX6_kindTold.locals ≤ R.locals) (hsize : ls.size = nL) (hr : (rest.map fun v => v.category).sum ≤ 8) (hdg : decode cc pc = .ok (.invokevirtual 362, 3)) (kk : ∀ (H1 : Heap) (locs1 : List Loc), MW G b x H1 → va_S (mB b) H0 H1 locs1 → W p l e R s m args below meth c H1 locs1 0 0 Q (F0 m (pc + 3) ls (rest))) : W p l e R s m args below meth c H locs 0 0 Q (F0 m pc ls (.int a1 :: .ref b :: rest)) :=
  m_cVv (As := [.int a1]) S hK hM hS (metX6_kindTold hf) (cwV 1 S.2.2.2.2 (lw_V q2077 q2079 qs70 q179 q2080) rfl rfl rfl (by decide +kernel) hR) ⟨Nat.zero_le _, Nat.zero_le _⟩ rfl hsize rfl hr hdg kk
/-! likesTold()V -/
abbrev rmX6_likesTold : Room := { frames := 6, cells := 0, slots := 0, locals := 110 }
def fX6_likesTold (σ : MS) : Option (MS) :=
  (fX6_oneOf σ (2 : Int32)).bind fun x1 =>
  (fX6_oneOf x1.1 (0 : Int32)).bind fun x2 =>
  (fX6_number x2.1 (0 : Int32) (9 : Int32)).bind fun x3 =>
  if (x3.1.1 5) = 0 then
    (tI x3.1 45 (((6 : Int32) * x1.2) + x2.2) x3.2).bind fun σ5 =>
    some σ5
  else
  some x3.1
set_option maxHeartbeats 4000000 in
theorem metX6_likesTold {l : Launch} {G : mG} {b : Nat} {σ : MS} {x : MS} (h : fX6_likesTold σ = some x) : Met l yX6_likesTold (ws_ yX6_likesTold cX6_likesTold 4 (none)) rmX6_likesTold (mP G b σ [.ref b]) (mQv G b x) 0 0 (mB b) := by
  refine m_entry (by decide) rfl (Nat.le_of_ble_eq_true rfl) ?_
  intro p e s m below meth c S hr hlk hK hM hS ls hl
  replace hl : lv_has ls 4 [(0, .ref b)] := hl
  obtain ⟨hx, hb, hml, hown, hts⟩ := id S
  unfold fX6_likesTold at h
  refine lv_aload_n hx hb dX6_likesTold_0 rfl (lv_at hl 0 rfl) ?_
  refine lv_iconst (v := (2 : Int32)) hx hb dX6_likesTold_1 (by decide) ?_
  replace h := ob h
  obtain ⟨x1, hx1, h⟩ := h
  refine kX6_oneOf S hK hM hS hx1 ⟨Nat.le_of_ble_eq_true rfl, Nat.le_of_ble_eq_true rfl⟩ hl.1 (Nat.le_of_ble_eq_true rfl) dX6_likesTold_2 (fun H locs hM hS => ?_)
  refine lv_istore_n (lv' := [(1, .int x1.2), (0, .ref b)]) hx hb dX6_likesTold_5 rfl hl (by decide) rfl (fun ls hl => ?_)
  refine lv_aload_n hx hb dX6_likesTold_6 rfl (lv_at hl 1 rfl) ?_
  refine lv_iconst (v := (0 : Int32)) hx hb dX6_likesTold_7 (by decide) ?_
  replace h := ob h
  obtain ⟨x2, hx2, h⟩ := h
  refine kX6_oneOf S hK hM hS hx2 ⟨Nat.le_of_ble_eq_true rfl, Nat.le_of_ble_eq_true rfl⟩ hl.1 (Nat.le_of_ble_eq_true rfl) dX6_likesTold_8 (fun H locs hM hS => ?_)
  refine lv_istore_n (lv' := [(2, .int x2.2), (1, .int x1.2), (0, .ref b)]) hx hb dX6_likesTold_11 rfl hl (by decide) rfl (fun ls hl => ?_)
  refine lv_aload_n hx hb dX6_likesTold_12 rfl (lv_at hl 2 rfl) ?_
  refine lv_iconst (v := (0 : Int32)) hx hb dX6_likesTold_13 (by decide) ?_
  refine lv_bipush (v := (9 : Int32)) hx hb dX6_likesTold_14 (by decide) ?_
  replace h := ob h
  obtain ⟨x3, hx3, h⟩ := h
  refine kX6_number S hK hM hS hx3 ⟨Nat.le_of_ble_eq_true rfl, Nat.le_of_ble_eq_true rfl⟩ hl.1 (Nat.le_of_ble_eq_true rfl) dX6_likesTold_16 (fun H locs hM hS => ?_)
  refine lv_istore_n (lv' := [(3, .int x3.2), (2, .int x2.2), (1, .int x1.2), (0, .ref b)]) hx hb dX6_likesTold_19 rfl hl (by decide) rfl (fun ls hl => ?_)
  refine lv_aload_n hx hb dX6_likesTold_20 rfl (lv_at hl 3 rfl) ?_
  refine m_get S hK hM 5 (Nat.le_of_ble_eq_true rfl) q1737 (v := .int (x3.1.1 5)) rfl dX6_likesTold_21 ?_
  refine lv_if_ne (tgt := 39) hx hb dX6_likesTold_24 (by decide) (fun c4 => ?_) (fun c4 => ?_)
  · replace h := ie c4 h
    exact m_vret S hr hlk hM hS h dX6_likesTold_39
  replace h := it c4 h
  refine lv_aload_n hx hb dX6_likesTold_27 rfl (lv_at hl 3 rfl) ?_
  refine m_get S hK hM 45 (Nat.le_of_ble_eq_true rfl) q1777 (v := .ref (ma b 45)) rfl dX6_likesTold_28 ?_
  refine lv_bipush (v := (6 : Int32)) hx hb dX6_likesTold_31 (by decide) ?_
  refine lv_iload_n hx hb dX6_likesTold_33 rfl (lv_at hl 2 rfl) ?_
  refine lv_imul hx hb dX6_likesTold_34 ?_
  refine lv_iload_n hx hb dX6_likesTold_35 rfl (lv_at hl 1 rfl) ?_
  refine lv_iadd hx hb dX6_likesTold_36 ?_
  refine lv_iload_n hx hb dX6_likesTold_37 rfl (lv_at hl 0 rfl) ?_
  replace h := ob h
  obtain ⟨σ5, hσ5, h⟩ := h
  refine m_iast S hK hM hS 45 rfl hσ5 dX6_likesTold_38 (fun H locs hM hS => ?_)
  exact m_vret S hr hlk hM hS h dX6_likesTold_39
theorem kX6_likesTold {p : Program} {l : Launch} {e : Env} {R : Room} {s : State} {m : MethodId} {args : Array Value} {below : List Frame} {meth : Method} {c : Code} {H H0 : Heap} {locs : List Loc} {Q : State → Prop} {cc : ByteArray} {nL pc : Nat} {ls : Array Slot} {rest : List Value} {G : mG} {b : Nat} {σ : MS} {x : MS} (S : CallFix p m c cc nL s args lw_all RX6) (hK : mK G s) (hM : MW G b σ H) (hS : va_S (mB b) H0 H locs) (hf : fX6_likesTold σ = some x) (hR : rmX6_likesTold.frames + 1 ≤ R.frames ∧ 8 + (4 + 11) + rmX6_likesTold.locals ≤ R.locals) (hsize : ls.size = nL) (hr : (rest.map fun v => v.category).sum ≤ 8) (hdg : decode cc pc = .ok (.invokevirtual 372, 3)) (kk : ∀ (H1 : Heap) (locs1 : List Loc), MW G b x H1 → va_S (mB b) H0 H1 locs1 → W p l e R s m args below meth c H1 locs1 0 0 Q (F0 m (pc + 3) ls (rest))) : W p l e R s m args below meth c H locs 0 0 Q (F0 m pc ls (.ref b :: rest)) :=
  m_cVv (As := []) S hK hM hS (metX6_likesTold hf) (cwV 0 S.2.2.2.2 (lw_V q2133 q2135 qs82 q179 q2136) rfl rfl rfl (by decide +kernel) hR) ⟨Nat.zero_le _, Nat.zero_le _⟩ rfl hsize rfl hr hdg kk
/-! personTold(I)V -/
abbrev rmX6_personTold : Room := { frames := 6, cells := 0, slots := 0, locals := 109 }
def fX6_personTold (σ : MS) (a1 : Int32) : Option (MS) :=
  (fX6_isFull σ (2 : Int32) (5 : Int32) a1).bind fun x1 =>
  if x1.2 = 0 then
    (fX6_newName x1.1).bind fun x3 =>
    (fX6_asks x3.1 15).bind fun x4 =>
    (fX6_number x4 (0 : Int32) (23 : Int32)).bind fun x5 =>
    (fX6_asks x5.1 16).bind fun x6 =>
    (fX6_number x6 x5.2 (23 : Int32)).bind fun x7 =>
    if (x7.1.1 5) = 0 then
      (aI x7.1 40 (2 : Int32)).bind fun v9 =>
      (tI x7.1 44 ((2 : Int32) * v9) x5.2).bind fun σ10 =>
      (aI σ10 40 (2 : Int32)).bind fun v11 =>
      (tI σ10 44 (((2 : Int32) * v11) + (1 : Int32)) x7.2).bind fun σ12 =>
      (fX6_adds σ12 (2 : Int32) x3.2).bind fun x13 =>
      some x13
    else
    some x7.1
  else
  some x1.1
set_option maxHeartbeats 4000000 in
theorem metX6_personTold {l : Launch} {G : mG} {b : Nat} {σ : MS} {a1 : Int32} {x : MS} (h : fX6_personTold σ a1 = some x) : Met l yX6_personTold (ws_ yX6_personTold cX6_personTold 6 (none)) rmX6_personTold (mP G b σ [.ref b, .int a1]) (mQv G b x) 0 0 (mB b) := by
  refine m_entry (by decide) rfl (Nat.le_of_ble_eq_true rfl) ?_
  intro p e s m below meth c S hr hlk hK hM hS ls hl
  replace hl : lv_has ls 6 [(0, .ref b), (1, .int a1)] := hl
  obtain ⟨hx, hb, hml, hown, hts⟩ := id S
  unfold fX6_personTold at h
  refine lv_aload_n hx hb dX6_personTold_0 rfl (lv_at hl 0 rfl) ?_
  refine lv_iconst (v := (2 : Int32)) hx hb dX6_personTold_1 (by decide) ?_
  refine lv_iconst (v := (5 : Int32)) hx hb dX6_personTold_2 (by decide) ?_
  refine lv_iload_n hx hb dX6_personTold_3 rfl (lv_at hl 1 rfl) ?_
  replace h := ob h
  obtain ⟨x1, hx1, h⟩ := h
  refine kX6_isFull S hK hM hS hx1 ⟨Nat.le_of_ble_eq_true rfl, Nat.le_of_ble_eq_true rfl⟩ hl.1 (Nat.le_of_ble_eq_true rfl) dX6_personTold_4 (fun H locs hM hS => ?_)
  refine lv_if_eq (tgt := 11) hx hb dX6_personTold_7 (by decide) (fun c2 => ?_) (fun c2 => ?_)
  rotate_left 1
  · replace h := ie c2 h
    exact m_vret S hr hlk hM hS h dX6_personTold_10
  replace h := it c2 h
  refine lv_aload_n hx hb dX6_personTold_11 rfl (lv_at hl 0 rfl) ?_
  replace h := ob h
  obtain ⟨x3, hx3, h⟩ := h
  refine kX6_newName S hK hM hS hx3 ⟨Nat.le_of_ble_eq_true rfl, Nat.le_of_ble_eq_true rfl⟩ hl.1 (Nat.le_of_ble_eq_true rfl) dX6_personTold_12 (fun H locs hM hS => ?_)
  refine lv_lstore_n (lv' := [(2, .long x3.2), (0, .ref b), (1, .int a1)]) hx hb dX6_personTold_15 rfl hl (by decide) rfl (fun ls hl => ?_)
  refine lv_aload_n hx hb dX6_personTold_16 rfl (lv_at hl 1 rfl) ?_
  refine lv_aload_n hx hb dX6_personTold_17 rfl (lv_at hl 1 rfl) ?_
  refine m_get S hK hM 15 (Nat.le_of_ble_eq_true rfl) q1747 (v := .ref (ma b 15)) rfl dX6_personTold_18 ?_
  replace h := ob h
  obtain ⟨x4, hx4, h⟩ := h
  refine kX6_asks S hK hM hS hx4 ⟨Nat.le_of_ble_eq_true rfl, Nat.le_of_ble_eq_true rfl⟩ hl.1 (Nat.le_of_ble_eq_true rfl) dX6_personTold_21 (fun H locs hM hS => ?_)
  refine lv_aload_n hx hb dX6_personTold_24 rfl (lv_at hl 1 rfl) ?_
  refine lv_iconst (v := (0 : Int32)) hx hb dX6_personTold_25 (by decide) ?_
  refine lv_bipush (v := (23 : Int32)) hx hb dX6_personTold_26 (by decide) ?_
  replace h := ob h
  obtain ⟨x5, hx5, h⟩ := h
  refine kX6_number S hK hM hS hx5 ⟨Nat.le_of_ble_eq_true rfl, Nat.le_of_ble_eq_true rfl⟩ hl.1 (Nat.le_of_ble_eq_true rfl) dX6_personTold_28 (fun H locs hM hS => ?_)
  refine lv_istore (lv' := [(4, .int x5.2), (2, .long x3.2), (0, .ref b), (1, .int a1)]) hx hb dX6_personTold_31 hl (by decide) rfl (fun ls hl => ?_)
  refine lv_aload_n hx hb dX6_personTold_33 rfl (lv_at hl 2 rfl) ?_
  refine lv_aload_n hx hb dX6_personTold_34 rfl (lv_at hl 2 rfl) ?_
  refine m_get S hK hM 16 (Nat.le_of_ble_eq_true rfl) q1748 (v := .ref (ma b 16)) rfl dX6_personTold_35 ?_
  replace h := ob h
  obtain ⟨x6, hx6, h⟩ := h
  refine kX6_asks S hK hM hS hx6 ⟨Nat.le_of_ble_eq_true rfl, Nat.le_of_ble_eq_true rfl⟩ hl.1 (Nat.le_of_ble_eq_true rfl) dX6_personTold_38 (fun H locs hM hS => ?_)
  refine lv_aload_n hx hb dX6_personTold_41 rfl (lv_at hl 2 rfl) ?_
  refine lv_iload hx hb dX6_personTold_42 (lv_at hl 0 rfl) ?_
  refine lv_bipush (v := (23 : Int32)) hx hb dX6_personTold_44 (by decide) ?_
  replace h := ob h
  obtain ⟨x7, hx7, h⟩ := h
  refine kX6_number S hK hM hS hx7 ⟨Nat.le_of_ble_eq_true rfl, Nat.le_of_ble_eq_true rfl⟩ hl.1 (Nat.le_of_ble_eq_true rfl) dX6_personTold_46 (fun H locs hM hS => ?_)
  refine lv_istore (lv' := [(5, .int x7.2), (4, .int x5.2), (2, .long x3.2), (0, .ref b), (1, .int a1)]) hx hb dX6_personTold_49 hl (by decide) rfl (fun ls hl => ?_)
  refine lv_aload_n hx hb dX6_personTold_51 rfl (lv_at hl 3 rfl) ?_
  refine m_get S hK hM 5 (Nat.le_of_ble_eq_true rfl) q1737 (v := .int (x7.1.1 5)) rfl dX6_personTold_52 ?_
  refine lv_if_eq (tgt := 59) hx hb dX6_personTold_55 (by decide) (fun c8 => ?_) (fun c8 => ?_)
  rotate_left 1
  · replace h := ie c8 h
    exact m_vret S hr hlk hM hS h dX6_personTold_58
  replace h := it c8 h
  refine lv_aload_n hx hb dX6_personTold_59 rfl (lv_at hl 3 rfl) ?_
  refine m_get S hK hM 44 (Nat.le_of_ble_eq_true rfl) q1776 (v := .ref (ma b 44)) rfl dX6_personTold_60 ?_
  refine lv_iconst (v := (2 : Int32)) hx hb dX6_personTold_63 (by decide) ?_
  refine lv_aload_n hx hb dX6_personTold_64 rfl (lv_at hl 3 rfl) ?_
  refine m_get S hK hM 40 (Nat.le_of_ble_eq_true rfl) q1772 (v := .ref (ma b 40)) rfl dX6_personTold_65 ?_
  refine lv_iconst (v := (2 : Int32)) hx hb dX6_personTold_68 (by decide) ?_
  replace h := ob h
  obtain ⟨v9, hv9, h⟩ := h
  refine m_iald S hK hM 40 rfl hv9 dX6_personTold_69 ?_
  refine lv_imul hx hb dX6_personTold_70 ?_
  refine lv_iload hx hb dX6_personTold_71 (lv_at hl 1 rfl) ?_
  replace h := ob h
  obtain ⟨σ10, hσ10, h⟩ := h
  refine m_iast S hK hM hS 44 rfl hσ10 dX6_personTold_73 (fun H locs hM hS => ?_)
  refine lv_aload_n hx hb dX6_personTold_74 rfl (lv_at hl 3 rfl) ?_
  refine m_get S hK hM 44 (Nat.le_of_ble_eq_true rfl) q1776 (v := .ref (ma b 44)) rfl dX6_personTold_75 ?_
  refine lv_iconst (v := (2 : Int32)) hx hb dX6_personTold_78 (by decide) ?_
  refine lv_aload_n hx hb dX6_personTold_79 rfl (lv_at hl 3 rfl) ?_
  refine m_get S hK hM 40 (Nat.le_of_ble_eq_true rfl) q1772 (v := .ref (ma b 40)) rfl dX6_personTold_80 ?_
  refine lv_iconst (v := (2 : Int32)) hx hb dX6_personTold_83 (by decide) ?_
  replace h := ob h
  obtain ⟨v11, hv11, h⟩ := h
  refine m_iald S hK hM 40 rfl hv11 dX6_personTold_84 ?_
  refine lv_imul hx hb dX6_personTold_85 ?_
  refine lv_iconst (v := (1 : Int32)) hx hb dX6_personTold_86 (by decide) ?_
  refine lv_iadd hx hb dX6_personTold_87 ?_
  refine lv_iload hx hb dX6_personTold_88 (lv_at hl 0 rfl) ?_
  replace h := ob h
  obtain ⟨σ12, hσ12, h⟩ := h
  refine m_iast S hK hM hS 44 rfl hσ12 dX6_personTold_90 (fun H locs hM hS => ?_)
  refine lv_aload_n hx hb dX6_personTold_91 rfl (lv_at hl 3 rfl) ?_
  refine lv_iconst (v := (2 : Int32)) hx hb dX6_personTold_92 (by decide) ?_
  refine lv_lload_n hx hb dX6_personTold_93 rfl (lv_at hl 2 rfl) ?_
  replace h := ob h
  obtain ⟨x13, hx13, h⟩ := h
  refine kX6_adds S hK hM hS hx13 ⟨Nat.le_of_ble_eq_true rfl, Nat.le_of_ble_eq_true rfl⟩ hl.1 (Nat.le_of_ble_eq_true rfl) dX6_personTold_94 (fun H locs hM hS => ?_)
  exact m_vret S hr hlk hM hS h dX6_personTold_97
theorem kX6_personTold {p : Program} {l : Launch} {e : Env} {R : Room} {s : State} {m : MethodId} {args : Array Value} {below : List Frame} {meth : Method} {c : Code} {H H0 : Heap} {locs : List Loc} {Q : State → Prop} {cc : ByteArray} {nL pc : Nat} {ls : Array Slot} {rest : List Value} {G : mG} {b : Nat} {σ : MS} {a1 : Int32} {x : MS} (S : CallFix p m c cc nL s args lw_all RX6) (hK : mK G s) (hM : MW G b σ H) (hS : va_S (mB b) H0 H locs) (hf : fX6_personTold σ a1 = some x) (hR : rmX6_personTold.frames + 1 ≤ R.frames ∧ 8 + (6 + 11) + rmX6_personTold.locals ≤ R.locals) (hsize : ls.size = nL) (hr : (rest.map fun v => v.category).sum ≤ 8) (hdg : decode cc pc = .ok (.invokevirtual 369, 3)) (kk : ∀ (H1 : Heap) (locs1 : List Loc), MW G b x H1 → va_S (mB b) H0 H1 locs1 → W p l e R s m args below meth c H1 locs1 0 0 Q (F0 m (pc + 3) ls (rest))) : W p l e R s m args below meth c H locs 0 0 Q (F0 m pc ls (.int a1 :: .ref b :: rest)) :=
  m_cVv (As := [.int a1]) S hK hM hS (metX6_personTold hf) (cwV 1 S.2.2.2.2 (lw_V q2129 q2131 qs81 q179 q2132) rfl rfl rfl (by decide +kernel) hR) ⟨Nat.zero_le _, Nat.zero_le _⟩ rfl hsize rfl hr hdg kk

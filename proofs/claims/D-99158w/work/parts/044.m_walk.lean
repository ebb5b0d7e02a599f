set_option maxRecDepth 100000
/-! pressTold()V -/
abbrev rmX6_pressTold : Room := { frames := 6, cells := 0, slots := 0, locals := 110 }
def fX6_pressTold_34 (σ : MS) (a1 : Int32) : Option (MS) :=
  if (σ.1 5) = 0 then
    some (sI σ 46 ((σ.1 46) ||| ((1 : Int32) <<< (a1 &&& 31))))
  else
  some σ
def fX6_pressTold (σ : MS) : Option (MS) :=
  (fX6_oneOf σ (2 : Int32)).bind fun x1 =>
  if (x1.1.1 5) = 0 then
    if (((x1.1.1 46) >>> (x1.2 &&& 31)) &&& (1 : Int32)) = (1 : Int32) then
      (fX6_fail x1.1 (3 : Int32) (x1.1.1 39)).bind fun x4 =>
      fX6_pressTold_34 x4 x1.2
    else
    fX6_pressTold_34 x1.1 x1.2
  else
  fX6_pressTold_34 x1.1 x1.2
set_option maxHeartbeats 4000000 in
theorem wX6_pressTold_34 {p : Program} {l : Launch} {e : Env} {s : State} {m : MethodId} {args : Array Value} {below : List Frame} {meth : Method} {c : Code} {G : mG} {b : Nat} (S : CallFix p m c cX6_pressTold 2 s args lw_all RX6) (hr : meth.sig.returnType = none) (hlk : meth.locks = false) (hK : mK G s) {x : MS} : ∀ (σ : MS) (a1 : Int32), fX6_pressTold_34 σ a1 = some x → mGo p l e rmX6_pressTold s m args below meth c G b (MQ below (mQv G b x) args s 0 0 (mB b)) 2 34 [(0, .ref b), (1, .int a1)] [] σ := by
  obtain ⟨hx, hb, hml, hown, hts⟩ := id S
  intro σ a1 h H locs hM hS ls hl
  unfold fX6_pressTold_34 at h
  refine lv_aload_n hx hb dX6_pressTold_34 rfl (lv_at hl 0 rfl) ?_
  refine m_get S hK hM 5 (Nat.le_of_ble_eq_true rfl) q1737 (v := .int (σ.1 5)) rfl dX6_pressTold_35 ?_
  refine lv_if_ne (tgt := 53) hx hb dX6_pressTold_38 (by decide) (fun c1 => ?_) (fun c1 => ?_)
  · replace h := ie c1 h
    exact m_vret S hr hlk hM hS h dX6_pressTold_53
  replace h := it c1 h
  refine lv_aload_n hx hb dX6_pressTold_41 rfl (lv_at hl 0 rfl) ?_
  refine lv_dup hx hb dX6_pressTold_42 rfl ?_
  refine m_get S hK hM 46 (Nat.le_of_ble_eq_true rfl) q1778 (v := .int (σ.1 46)) rfl dX6_pressTold_43 ?_
  refine lv_iconst (v := (1 : Int32)) hx hb dX6_pressTold_46 (by decide) ?_
  refine lv_iload_n hx hb dX6_pressTold_47 rfl (lv_at hl 1 rfl) ?_
  refine lv_ishl hx hb dX6_pressTold_48 ?_
  refine lv_ior hx hb dX6_pressTold_49 ?_
  refine m_putI S hK hM hS 46 (Nat.le_of_ble_eq_true rfl) rfl q1778 rfl (ty := .int) rfl rfl rfl dX6_pressTold_50 (fun H locs hM hS => ?_)
  exact m_vret S hr hlk hM hS h dX6_pressTold_53
set_option maxHeartbeats 4000000 in
theorem metX6_pressTold {l : Launch} {G : mG} {b : Nat} {σ : MS} {x : MS} (h : fX6_pressTold σ = some x) : Met l yX6_pressTold (ws_ yX6_pressTold cX6_pressTold 2 (none)) rmX6_pressTold (mP G b σ [.ref b]) (mQv G b x) 0 0 (mB b) := by
  refine m_entry (by decide) rfl (Nat.le_of_ble_eq_true rfl) ?_
  intro p e s m below meth c S hr hlk hK hM hS ls hl
  replace hl : lv_has ls 2 [(0, .ref b)] := hl
  obtain ⟨hx, hb, hml, hown, hts⟩ := id S
  unfold fX6_pressTold at h
  refine lv_aload_n hx hb dX6_pressTold_0 rfl (lv_at hl 0 rfl) ?_
  refine lv_iconst (v := (2 : Int32)) hx hb dX6_pressTold_1 (by decide) ?_
  replace h := ob h
  obtain ⟨x1, hx1, h⟩ := h
  refine kX6_oneOf S hK hM hS hx1 ⟨Nat.le_of_ble_eq_true rfl, Nat.le_of_ble_eq_true rfl⟩ hl.1 (Nat.le_of_ble_eq_true rfl) dX6_pressTold_2 (fun H locs hM hS => ?_)
  refine lv_istore_n (lv' := [(1, .int x1.2), (0, .ref b)]) hx hb dX6_pressTold_5 rfl hl (by decide) rfl (fun ls hl => ?_)
  refine lv_aload_n hx hb dX6_pressTold_6 rfl (lv_at hl 1 rfl) ?_
  refine m_get S hK hM 5 (Nat.le_of_ble_eq_true rfl) q1737 (v := .int (x1.1.1 5)) rfl dX6_pressTold_7 ?_
  refine lv_if_ne (tgt := 34) hx hb dX6_pressTold_10 (by decide) (fun c2 => ?_) (fun c2 => ?_)
  · replace h := ie c2 h
    exact wX6_pressTold_34 S hr hlk hK x1.1 x1.2 h _ _ hM hS _ (lv_sub hl [1, 0] rfl)
  replace h := it c2 h
  refine lv_aload_n hx hb dX6_pressTold_13 rfl (lv_at hl 1 rfl) ?_
  refine m_get S hK hM 46 (Nat.le_of_ble_eq_true rfl) q1778 (v := .int (x1.1.1 46)) rfl dX6_pressTold_14 ?_
  refine lv_iload_n hx hb dX6_pressTold_17 rfl (lv_at hl 0 rfl) ?_
  refine lv_ishr hx hb dX6_pressTold_18 ?_
  refine lv_iconst (v := (1 : Int32)) hx hb dX6_pressTold_19 (by decide) ?_
  refine lv_iand hx hb dX6_pressTold_20 ?_
  refine lv_iconst (v := (1 : Int32)) hx hb dX6_pressTold_21 (by decide) ?_
  refine lv_icmp_ne (tgt := 34) hx hb dX6_pressTold_22 (by decide) (fun c3 => ?_) (fun c3 => ?_)
  · replace h := ie c3 h
    exact wX6_pressTold_34 S hr hlk hK x1.1 x1.2 h _ _ hM hS _ (lv_sub hl [1, 0] rfl)
  replace h := it c3 h
  refine lv_aload_n hx hb dX6_pressTold_25 rfl (lv_at hl 1 rfl) ?_
  refine lv_iconst (v := (3 : Int32)) hx hb dX6_pressTold_26 (by decide) ?_
  refine lv_aload_n hx hb dX6_pressTold_27 rfl (lv_at hl 1 rfl) ?_
  refine m_get S hK hM 39 (Nat.le_of_ble_eq_true rfl) q1771 (v := .int (x1.1.1 39)) rfl dX6_pressTold_28 ?_
  replace h := ob h
  obtain ⟨x4, hx4, h⟩ := h
  refine kX6_fail S hK hM hS hx4 ⟨Nat.le_of_ble_eq_true rfl, Nat.le_of_ble_eq_true rfl⟩ hl.1 (Nat.le_of_ble_eq_true rfl) dX6_pressTold_31 (fun H locs hM hS => ?_)
  exact wX6_pressTold_34 S hr hlk hK x4 x1.2 h _ _ hM hS _ (lv_sub hl [1, 0] rfl)
theorem kX6_pressTold {p : Program} {l : Launch} {e : Env} {R : Room} {s : State} {m : MethodId} {args : Array Value} {below : List Frame} {meth : Method} {c : Code} {H H0 : Heap} {locs : List Loc} {Q : State → Prop} {cc : ByteArray} {nL pc : Nat} {ls : Array Slot} {rest : List Value} {G : mG} {b : Nat} {σ : MS} {x : MS} (S : CallFix p m c cc nL s args lw_all RX6) (hK : mK G s) (hM : MW G b σ H) (hS : va_S (mB b) H0 H locs) (hf : fX6_pressTold σ = some x) (hR : rmX6_pressTold.frames + 1 ≤ R.frames ∧ 8 + (2 + 11) + rmX6_pressTold.locals ≤ R.locals) (hsize : ls.size = nL) (hr : (rest.map fun v => v.category).sum ≤ 8) (hdg : decode cc pc = .ok (.invokevirtual 375, 3)) (kk : ∀ (H1 : Heap) (locs1 : List Loc), MW G b x H1 → va_S (mB b) H0 H1 locs1 → W p l e R s m args below meth c H1 locs1 0 0 Q (F0 m (pc + 3) ls (rest))) : W p l e R s m args below meth c H locs 0 0 Q (F0 m pc ls (.ref b :: rest)) :=
  m_cVv (As := []) S hK hM hS (metX6_pressTold hf) (cwV 0 S.2.2.2.2 (lw_V q2137 q2139 qs83 q179 q2140) rfl rfl rfl (by decide +kernel) hR) ⟨Nat.zero_le _, Nat.zero_le _⟩ rfl hsize rfl hr hdg kk
/-! statementTold()V -/
abbrev rmX6_statementTold : Room := { frames := 11, cells := 0, slots := 0, locals := 219 }
def fX6_statementTold_276 (σ : MS) : Option (MS) :=
  (fX6_asksSign σ (59 : Int32)).bind fun x1 =>
  some (sI x1 52 ((x1.1 52) + (1 : Int32)))
def fX6_statementTold (σ : MS) : Option (MS) :=
  if (σ.1 52) = (80 : Int32) then
    (fX6_fail σ (5 : Int32) (σ.1 2)).bind fun x41 =>
    some x41
  else
  (fX6_takes σ 10).bind fun x2 =>
  if x2.2 = 0 then
    (fX6_takes x2.1 11).bind fun x4 =>
    if x4.2 = 0 then
      (fX6_takes x4.1 14).bind fun x6 =>
      if x6.2 = 0 then
        (fX6_takes x6.1 17).bind fun x8 =>
        if x8.2 = 0 then
          (fX6_takes x8.1 18).bind fun x10 =>
          if x10.2 = 0 then
            (fX6_takes x10.1 19).bind fun x12 =>
            if x12.2 = 0 then
              (fX6_takes x12.1 20).bind fun x14 =>
              if x14.2 = 0 then
                (fX6_takes x14.1 21).bind fun x16 =>
                if x16.2 = 0 then
                  (fX6_takes x16.1 22).bind fun x18 =>
                  if x18.2 = 0 then
                    (fX6_takes x18.1 23).bind fun x20 =>
                    if x20.2 = 0 then
                      (fX6_takes x20.1 24).bind fun x22 =>
                      if x22.2 = 0 then
                        (fX6_asks x22.1 25).bind fun x24 =>
                        (fX6_number x24 (0 : Int32) (100 : Int32)).bind fun x25 =>
                        (tI x25.1 47 (3 : Int32) x25.2).bind fun σ26 =>
                        fX6_statementTold_276 σ26
                      else
                      (fX6_number x22.1 (0 : Int32) (99 : Int32)).bind fun x27 =>
                      (tI x27.1 47 (2 : Int32) x27.2).bind fun σ28 =>
                      fX6_statementTold_276 σ28
                    else
                    (fX6_number x20.1 (0 : Int32) (999 : Int32)).bind fun x29 =>
                    (tI x29.1 47 (1 : Int32) x29.2).bind fun σ30 =>
                    fX6_statementTold_276 σ30
                  else
                  (fX6_number x18.1 (1 : Int32) (5 : Int32)).bind fun x31 =>
                  (tI x31.1 47 (0 : Int32) x31.2).bind fun σ32 =>
                  fX6_statementTold_276 σ32
                else
                (fX6_codesTold x16.1 (2 : Int32) (σ.1 2)).bind fun x33 =>
                fX6_statementTold_276 x33
              else
              (fX6_codesTold x14.1 (1 : Int32) (σ.1 2)).bind fun x34 =>
              fX6_statementTold_276 x34
            else
            (fX6_codesTold x12.1 (0 : Int32) (σ.1 2)).bind fun x35 =>
            fX6_statementTold_276 x35
          else
          (fX6_pressTold x10.1).bind fun x36 =>
          fX6_statementTold_276 x36
        else
        (fX6_likesTold x8.1).bind fun x37 =>
        fX6_statementTold_276 x37
      else
      (fX6_personTold x6.1 (σ.1 2)).bind fun x38 =>
      fX6_statementTold_276 x38
    else
    (fX6_filmTold x4.1 (σ.1 2)).bind fun x39 =>
    fX6_statementTold_276 x39
  else
  (fX6_kindTold x2.1 (σ.1 2)).bind fun x40 =>
  fX6_statementTold_276 x40
set_option maxHeartbeats 4000000 in
theorem wX6_statementTold_276 {p : Program} {l : Launch} {e : Env} {s : State} {m : MethodId} {args : Array Value} {below : List Frame} {meth : Method} {c : Code} {G : mG} {b : Nat} (S : CallFix p m c cX6_statementTold 2 s args lw_all RX6) (hr : meth.sig.returnType = none) (hlk : meth.locks = false) (hK : mK G s) {x : MS} : ∀ (σ : MS), fX6_statementTold_276 σ = some x → mGo p l e rmX6_statementTold s m args below meth c G b (MQ below (mQv G b x) args s 0 0 (mB b)) 2 276 [(0, .ref b)] [] σ := by
  obtain ⟨hx, hb, hml, hown, hts⟩ := id S
  intro σ h H locs hM hS ls hl
  unfold fX6_statementTold_276 at h
  refine lv_aload_n hx hb dX6_statementTold_276 rfl (lv_at hl 0 rfl) ?_
  refine lv_bipush (v := (59 : Int32)) hx hb dX6_statementTold_277 (by decide) ?_
  replace h := ob h
  obtain ⟨x1, hx1, h⟩ := h
  refine kX6_asksSign S hK hM hS hx1 ⟨Nat.le_of_ble_eq_true rfl, Nat.le_of_ble_eq_true rfl⟩ hl.1 (Nat.le_of_ble_eq_true rfl) dX6_statementTold_279 (fun H locs hM hS => ?_)
  refine lv_aload_n hx hb dX6_statementTold_282 rfl (lv_at hl 0 rfl) ?_
  refine lv_dup hx hb dX6_statementTold_283 rfl ?_
  refine m_get S hK hM 52 (Nat.le_of_ble_eq_true rfl) q1784 (v := .int (x1.1 52)) rfl dX6_statementTold_284 ?_
  refine lv_iconst (v := (1 : Int32)) hx hb dX6_statementTold_287 (by decide) ?_
  refine lv_iadd hx hb dX6_statementTold_288 ?_
  refine m_putI S hK hM hS 52 (Nat.le_of_ble_eq_true rfl) rfl q1784 rfl (ty := .int) rfl rfl rfl dX6_statementTold_289 (fun H locs hM hS => ?_)
  exact m_vret S hr hlk hM hS h dX6_statementTold_292
set_option maxHeartbeats 4000000 in
theorem metX6_statementTold {l : Launch} {G : mG} {b : Nat} {σ : MS} {x : MS} (h : fX6_statementTold σ = some x) : Met l yX6_statementTold (ws_ yX6_statementTold cX6_statementTold 2 (none)) rmX6_statementTold (mP G b σ [.ref b]) (mQv G b x) 0 0 (mB b) := by
  refine m_entry (by decide) rfl (Nat.le_of_ble_eq_true rfl) ?_
  intro p e s m below meth c S hr hlk hK hM hS ls hl
  replace hl : lv_has ls 2 [(0, .ref b)] := hl
  obtain ⟨hx, hb, hml, hown, hts⟩ := id S
  unfold fX6_statementTold at h
  refine lv_aload_n hx hb dX6_statementTold_0 rfl (lv_at hl 0 rfl) ?_
  refine m_get S hK hM 2 (Nat.le_of_ble_eq_true rfl) q1734 (v := .int (σ.1 2)) rfl dX6_statementTold_1 ?_
  refine lv_istore_n (lv' := [(1, .int (σ.1 2)), (0, .ref b)]) hx hb dX6_statementTold_4 rfl hl (by decide) rfl (fun ls hl => ?_)
  refine lv_aload_n hx hb dX6_statementTold_5 rfl (lv_at hl 1 rfl) ?_
  refine m_get S hK hM 52 (Nat.le_of_ble_eq_true rfl) q1784 (v := .int (σ.1 52)) rfl dX6_statementTold_6 ?_
  refine lv_bipush (v := (80 : Int32)) hx hb dX6_statementTold_9 (by decide) ?_
  refine lv_icmp_ne (tgt := 21) hx hb dX6_statementTold_11 (by decide) (fun c1 => ?_) (fun c1 => ?_)
  rotate_left 1
  · replace h := it c1 h
    refine lv_aload_n hx hb dX6_statementTold_14 rfl (lv_at hl 1 rfl) ?_
    refine lv_iconst (v := (5 : Int32)) hx hb dX6_statementTold_15 (by decide) ?_
    refine lv_iload_n hx hb dX6_statementTold_16 rfl (lv_at hl 0 rfl) ?_
    replace h := ob h
    obtain ⟨x41, hx41, h⟩ := h
    refine kX6_fail S hK hM hS hx41 ⟨Nat.le_of_ble_eq_true rfl, Nat.le_of_ble_eq_true rfl⟩ hl.1 (Nat.le_of_ble_eq_true rfl) dX6_statementTold_17 (fun H locs hM hS => ?_)
    exact m_vret S hr hlk hM hS h dX6_statementTold_20
  replace h := ie c1 h
  refine lv_aload_n hx hb dX6_statementTold_21 rfl (lv_at hl 1 rfl) ?_
  refine lv_aload_n hx hb dX6_statementTold_22 rfl (lv_at hl 1 rfl) ?_
  refine m_get S hK hM 10 (Nat.le_of_ble_eq_true rfl) q1742 (v := .ref (ma b 10)) rfl dX6_statementTold_23 ?_
  replace h := ob h
  obtain ⟨x2, hx2, h⟩ := h
  refine kX6_takes S hK hM hS hx2 ⟨Nat.le_of_ble_eq_true rfl, Nat.le_of_ble_eq_true rfl⟩ hl.1 (Nat.le_of_ble_eq_true rfl) dX6_statementTold_26 (fun H locs hM hS => ?_)
  refine lv_if_eq (tgt := 40) hx hb dX6_statementTold_29 (by decide) (fun c3 => ?_) (fun c3 => ?_)
  rotate_left 1
  · replace h := ie c3 h
    refine lv_aload_n hx hb dX6_statementTold_32 rfl (lv_at hl 1 rfl) ?_
    refine lv_iload_n hx hb dX6_statementTold_33 rfl (lv_at hl 0 rfl) ?_
    replace h := ob h
    obtain ⟨x40, hx40, h⟩ := h
    refine kX6_kindTold S hK hM hS hx40 ⟨Nat.le_of_ble_eq_true rfl, Nat.le_of_ble_eq_true rfl⟩ hl.1 (Nat.le_of_ble_eq_true rfl) dX6_statementTold_34 (fun H locs hM hS => ?_)
    refine lv_goto (tgt := 276) hx hb dX6_statementTold_37 (by decide) ?_
    exact wX6_statementTold_276 S hr hlk hK x40 h _ _ hM hS _ (lv_sub hl [1] rfl)
  replace h := it c3 h
  refine lv_aload_n hx hb dX6_statementTold_40 rfl (lv_at hl 1 rfl) ?_
  refine lv_aload_n hx hb dX6_statementTold_41 rfl (lv_at hl 1 rfl) ?_
  refine m_get S hK hM 11 (Nat.le_of_ble_eq_true rfl) q1743 (v := .ref (ma b 11)) rfl dX6_statementTold_42 ?_
  replace h := ob h
  obtain ⟨x4, hx4, h⟩ := h
  refine kX6_takes S hK hM hS hx4 ⟨Nat.le_of_ble_eq_true rfl, Nat.le_of_ble_eq_true rfl⟩ hl.1 (Nat.le_of_ble_eq_true rfl) dX6_statementTold_45 (fun H locs hM hS => ?_)
  refine lv_if_eq (tgt := 59) hx hb dX6_statementTold_48 (by decide) (fun c5 => ?_) (fun c5 => ?_)
  rotate_left 1
  · replace h := ie c5 h
    refine lv_aload_n hx hb dX6_statementTold_51 rfl (lv_at hl 1 rfl) ?_
    refine lv_iload_n hx hb dX6_statementTold_52 rfl (lv_at hl 0 rfl) ?_
    replace h := ob h
    obtain ⟨x39, hx39, h⟩ := h
    refine kX6_filmTold S hK hM hS hx39 ⟨Nat.le_of_ble_eq_true rfl, Nat.le_of_ble_eq_true rfl⟩ hl.1 (Nat.le_of_ble_eq_true rfl) dX6_statementTold_53 (fun H locs hM hS => ?_)
    refine lv_goto (tgt := 276) hx hb dX6_statementTold_56 (by decide) ?_
    exact wX6_statementTold_276 S hr hlk hK x39 h _ _ hM hS _ (lv_sub hl [1] rfl)
  replace h := it c5 h
  refine lv_aload_n hx hb dX6_statementTold_59 rfl (lv_at hl 1 rfl) ?_
  refine lv_aload_n hx hb dX6_statementTold_60 rfl (lv_at hl 1 rfl) ?_
  refine m_get S hK hM 14 (Nat.le_of_ble_eq_true rfl) q1746 (v := .ref (ma b 14)) rfl dX6_statementTold_61 ?_
  replace h := ob h
  obtain ⟨x6, hx6, h⟩ := h
  refine kX6_takes S hK hM hS hx6 ⟨Nat.le_of_ble_eq_true rfl, Nat.le_of_ble_eq_true rfl⟩ hl.1 (Nat.le_of_ble_eq_true rfl) dX6_statementTold_64 (fun H locs hM hS => ?_)
  refine lv_if_eq (tgt := 78) hx hb dX6_statementTold_67 (by decide) (fun c7 => ?_) (fun c7 => ?_)
  rotate_left 1
  · replace h := ie c7 h
    refine lv_aload_n hx hb dX6_statementTold_70 rfl (lv_at hl 1 rfl) ?_
    refine lv_iload_n hx hb dX6_statementTold_71 rfl (lv_at hl 0 rfl) ?_
    replace h := ob h
    obtain ⟨x38, hx38, h⟩ := h
    refine kX6_personTold S hK hM hS hx38 ⟨Nat.le_of_ble_eq_true rfl, Nat.le_of_ble_eq_true rfl⟩ hl.1 (Nat.le_of_ble_eq_true rfl) dX6_statementTold_72 (fun H locs hM hS => ?_)
    refine lv_goto (tgt := 276) hx hb dX6_statementTold_75 (by decide) ?_
    exact wX6_statementTold_276 S hr hlk hK x38 h _ _ hM hS _ (lv_sub hl [1] rfl)
  replace h := it c7 h
  refine lv_aload_n hx hb dX6_statementTold_78 rfl (lv_at hl 1 rfl) ?_
  refine lv_aload_n hx hb dX6_statementTold_79 rfl (lv_at hl 1 rfl) ?_
  refine m_get S hK hM 17 (Nat.le_of_ble_eq_true rfl) q1749 (v := .ref (ma b 17)) rfl dX6_statementTold_80 ?_
  replace h := ob h
  obtain ⟨x8, hx8, h⟩ := h
  refine kX6_takes S hK hM hS hx8 ⟨Nat.le_of_ble_eq_true rfl, Nat.le_of_ble_eq_true rfl⟩ hl.1 (Nat.le_of_ble_eq_true rfl) dX6_statementTold_83 (fun H locs hM hS => ?_)
  refine lv_if_eq (tgt := 96) hx hb dX6_statementTold_86 (by decide) (fun c9 => ?_) (fun c9 => ?_)
  rotate_left 1
  · replace h := ie c9 h
    refine lv_aload_n hx hb dX6_statementTold_89 rfl (lv_at hl 1 rfl) ?_
    replace h := ob h
    obtain ⟨x37, hx37, h⟩ := h
    refine kX6_likesTold S hK hM hS hx37 ⟨Nat.le_of_ble_eq_true rfl, Nat.le_of_ble_eq_true rfl⟩ hl.1 (Nat.le_of_ble_eq_true rfl) dX6_statementTold_90 (fun H locs hM hS => ?_)
    refine lv_goto (tgt := 276) hx hb dX6_statementTold_93 (by decide) ?_
    exact wX6_statementTold_276 S hr hlk hK x37 h _ _ hM hS _ (lv_sub hl [1] rfl)
  replace h := it c9 h
  refine lv_aload_n hx hb dX6_statementTold_96 rfl (lv_at hl 1 rfl) ?_
  refine lv_aload_n hx hb dX6_statementTold_97 rfl (lv_at hl 1 rfl) ?_
  refine m_get S hK hM 18 (Nat.le_of_ble_eq_true rfl) q1750 (v := .ref (ma b 18)) rfl dX6_statementTold_98 ?_
  replace h := ob h
  obtain ⟨x10, hx10, h⟩ := h
  refine kX6_takes S hK hM hS hx10 ⟨Nat.le_of_ble_eq_true rfl, Nat.le_of_ble_eq_true rfl⟩ hl.1 (Nat.le_of_ble_eq_true rfl) dX6_statementTold_101 (fun H locs hM hS => ?_)
  refine lv_if_eq (tgt := 114) hx hb dX6_statementTold_104 (by decide) (fun c11 => ?_) (fun c11 => ?_)
  rotate_left 1
  · replace h := ie c11 h
    refine lv_aload_n hx hb dX6_statementTold_107 rfl (lv_at hl 1 rfl) ?_
    replace h := ob h
    obtain ⟨x36, hx36, h⟩ := h
    refine kX6_pressTold S hK hM hS hx36 ⟨Nat.le_of_ble_eq_true rfl, Nat.le_of_ble_eq_true rfl⟩ hl.1 (Nat.le_of_ble_eq_true rfl) dX6_statementTold_108 (fun H locs hM hS => ?_)
    refine lv_goto (tgt := 276) hx hb dX6_statementTold_111 (by decide) ?_
    exact wX6_statementTold_276 S hr hlk hK x36 h _ _ hM hS _ (lv_sub hl [1] rfl)
  replace h := it c11 h
  refine lv_aload_n hx hb dX6_statementTold_114 rfl (lv_at hl 1 rfl) ?_
  refine lv_aload_n hx hb dX6_statementTold_115 rfl (lv_at hl 1 rfl) ?_
  refine m_get S hK hM 19 (Nat.le_of_ble_eq_true rfl) q1751 (v := .ref (ma b 19)) rfl dX6_statementTold_116 ?_
  replace h := ob h
  obtain ⟨x12, hx12, h⟩ := h
  refine kX6_takes S hK hM hS hx12 ⟨Nat.le_of_ble_eq_true rfl, Nat.le_of_ble_eq_true rfl⟩ hl.1 (Nat.le_of_ble_eq_true rfl) dX6_statementTold_119 (fun H locs hM hS => ?_)
  refine lv_if_eq (tgt := 134) hx hb dX6_statementTold_122 (by decide) (fun c13 => ?_) (fun c13 => ?_)
  rotate_left 1
  · replace h := ie c13 h
    refine lv_aload_n hx hb dX6_statementTold_125 rfl (lv_at hl 1 rfl) ?_
    refine lv_iconst (v := (0 : Int32)) hx hb dX6_statementTold_126 (by decide) ?_
    refine lv_iload_n hx hb dX6_statementTold_127 rfl (lv_at hl 0 rfl) ?_
    replace h := ob h
    obtain ⟨x35, hx35, h⟩ := h
    refine kX6_codesTold S hK hM hS hx35 ⟨Nat.le_of_ble_eq_true rfl, Nat.le_of_ble_eq_true rfl⟩ hl.1 (Nat.le_of_ble_eq_true rfl) dX6_statementTold_128 (fun H locs hM hS => ?_)
    refine lv_goto (tgt := 276) hx hb dX6_statementTold_131 (by decide) ?_
    exact wX6_statementTold_276 S hr hlk hK x35 h _ _ hM hS _ (lv_sub hl [1] rfl)
  replace h := it c13 h
  refine lv_aload_n hx hb dX6_statementTold_134 rfl (lv_at hl 1 rfl) ?_
  refine lv_aload_n hx hb dX6_statementTold_135 rfl (lv_at hl 1 rfl) ?_
  refine m_get S hK hM 20 (Nat.le_of_ble_eq_true rfl) q1752 (v := .ref (ma b 20)) rfl dX6_statementTold_136 ?_
  replace h := ob h
  obtain ⟨x14, hx14, h⟩ := h
  refine kX6_takes S hK hM hS hx14 ⟨Nat.le_of_ble_eq_true rfl, Nat.le_of_ble_eq_true rfl⟩ hl.1 (Nat.le_of_ble_eq_true rfl) dX6_statementTold_139 (fun H locs hM hS => ?_)
  refine lv_if_eq (tgt := 154) hx hb dX6_statementTold_142 (by decide) (fun c15 => ?_) (fun c15 => ?_)
  rotate_left 1
  · replace h := ie c15 h
    refine lv_aload_n hx hb dX6_statementTold_145 rfl (lv_at hl 1 rfl) ?_
    refine lv_iconst (v := (1 : Int32)) hx hb dX6_statementTold_146 (by decide) ?_
    refine lv_iload_n hx hb dX6_statementTold_147 rfl (lv_at hl 0 rfl) ?_
    replace h := ob h
    obtain ⟨x34, hx34, h⟩ := h
    refine kX6_codesTold S hK hM hS hx34 ⟨Nat.le_of_ble_eq_true rfl, Nat.le_of_ble_eq_true rfl⟩ hl.1 (Nat.le_of_ble_eq_true rfl) dX6_statementTold_148 (fun H locs hM hS => ?_)
    refine lv_goto (tgt := 276) hx hb dX6_statementTold_151 (by decide) ?_
    exact wX6_statementTold_276 S hr hlk hK x34 h _ _ hM hS _ (lv_sub hl [1] rfl)
  replace h := it c15 h
  refine lv_aload_n hx hb dX6_statementTold_154 rfl (lv_at hl 1 rfl) ?_
  refine lv_aload_n hx hb dX6_statementTold_155 rfl (lv_at hl 1 rfl) ?_
  refine m_get S hK hM 21 (Nat.le_of_ble_eq_true rfl) q1753 (v := .ref (ma b 21)) rfl dX6_statementTold_156 ?_
  replace h := ob h
  obtain ⟨x16, hx16, h⟩ := h
  refine kX6_takes S hK hM hS hx16 ⟨Nat.le_of_ble_eq_true rfl, Nat.le_of_ble_eq_true rfl⟩ hl.1 (Nat.le_of_ble_eq_true rfl) dX6_statementTold_159 (fun H locs hM hS => ?_)
  refine lv_if_eq (tgt := 174) hx hb dX6_statementTold_162 (by decide) (fun c17 => ?_) (fun c17 => ?_)
  rotate_left 1
  · replace h := ie c17 h
    refine lv_aload_n hx hb dX6_statementTold_165 rfl (lv_at hl 1 rfl) ?_
    refine lv_iconst (v := (2 : Int32)) hx hb dX6_statementTold_166 (by decide) ?_
    refine lv_iload_n hx hb dX6_statementTold_167 rfl (lv_at hl 0 rfl) ?_
    replace h := ob h
    obtain ⟨x33, hx33, h⟩ := h
    refine kX6_codesTold S hK hM hS hx33 ⟨Nat.le_of_ble_eq_true rfl, Nat.le_of_ble_eq_true rfl⟩ hl.1 (Nat.le_of_ble_eq_true rfl) dX6_statementTold_168 (fun H locs hM hS => ?_)
    refine lv_goto (tgt := 276) hx hb dX6_statementTold_171 (by decide) ?_
    exact wX6_statementTold_276 S hr hlk hK x33 h _ _ hM hS _ (lv_sub hl [1] rfl)
  replace h := it c17 h
  refine lv_aload_n hx hb dX6_statementTold_174 rfl (lv_at hl 1 rfl) ?_
  refine lv_aload_n hx hb dX6_statementTold_175 rfl (lv_at hl 1 rfl) ?_
  refine m_get S hK hM 22 (Nat.le_of_ble_eq_true rfl) q1754 (v := .ref (ma b 22)) rfl dX6_statementTold_176 ?_
  replace h := ob h
  obtain ⟨x18, hx18, h⟩ := h
  refine kX6_takes S hK hM hS hx18 ⟨Nat.le_of_ble_eq_true rfl, Nat.le_of_ble_eq_true rfl⟩ hl.1 (Nat.le_of_ble_eq_true rfl) dX6_statementTold_179 (fun H locs hM hS => ?_)
  refine lv_if_eq (tgt := 200) hx hb dX6_statementTold_182 (by decide) (fun c19 => ?_) (fun c19 => ?_)
  rotate_left 1
  · replace h := ie c19 h
    refine lv_aload_n hx hb dX6_statementTold_185 rfl (lv_at hl 1 rfl) ?_
    refine m_get S hK hM 47 (Nat.le_of_ble_eq_true rfl) q1779 (v := .ref (ma b 47)) rfl dX6_statementTold_186 ?_
    refine lv_iconst (v := (0 : Int32)) hx hb dX6_statementTold_189 (by decide) ?_
    refine lv_aload_n hx hb dX6_statementTold_190 rfl (lv_at hl 1 rfl) ?_
    refine lv_iconst (v := (1 : Int32)) hx hb dX6_statementTold_191 (by decide) ?_
    refine lv_iconst (v := (5 : Int32)) hx hb dX6_statementTold_192 (by decide) ?_
    replace h := ob h
    obtain ⟨x31, hx31, h⟩ := h
    refine kX6_number S hK hM hS hx31 ⟨Nat.le_of_ble_eq_true rfl, Nat.le_of_ble_eq_true rfl⟩ hl.1 (Nat.le_of_ble_eq_true rfl) dX6_statementTold_193 (fun H locs hM hS => ?_)
    replace h := ob h
    obtain ⟨σ32, hσ32, h⟩ := h
    refine m_iast S hK hM hS 47 rfl hσ32 dX6_statementTold_196 (fun H locs hM hS => ?_)
    refine lv_goto (tgt := 276) hx hb dX6_statementTold_197 (by decide) ?_
    exact wX6_statementTold_276 S hr hlk hK σ32 h _ _ hM hS _ (lv_sub hl [1] rfl)
  replace h := it c19 h
  refine lv_aload_n hx hb dX6_statementTold_200 rfl (lv_at hl 1 rfl) ?_
  refine lv_aload_n hx hb dX6_statementTold_201 rfl (lv_at hl 1 rfl) ?_
  refine m_get S hK hM 23 (Nat.le_of_ble_eq_true rfl) q1755 (v := .ref (ma b 23)) rfl dX6_statementTold_202 ?_
  replace h := ob h
  obtain ⟨x20, hx20, h⟩ := h
  refine kX6_takes S hK hM hS hx20 ⟨Nat.le_of_ble_eq_true rfl, Nat.le_of_ble_eq_true rfl⟩ hl.1 (Nat.le_of_ble_eq_true rfl) dX6_statementTold_205 (fun H locs hM hS => ?_)
  refine lv_if_eq (tgt := 228) hx hb dX6_statementTold_208 (by decide) (fun c21 => ?_) (fun c21 => ?_)
  rotate_left 1
  · replace h := ie c21 h
    refine lv_aload_n hx hb dX6_statementTold_211 rfl (lv_at hl 1 rfl) ?_
    refine m_get S hK hM 47 (Nat.le_of_ble_eq_true rfl) q1779 (v := .ref (ma b 47)) rfl dX6_statementTold_212 ?_
    refine lv_iconst (v := (1 : Int32)) hx hb dX6_statementTold_215 (by decide) ?_
    refine lv_aload_n hx hb dX6_statementTold_216 rfl (lv_at hl 1 rfl) ?_
    refine lv_iconst (v := (0 : Int32)) hx hb dX6_statementTold_217 (by decide) ?_
    refine lv_sipush (v := (999 : Int32)) hx hb dX6_statementTold_218 (by decide) ?_
    replace h := ob h
    obtain ⟨x29, hx29, h⟩ := h
    refine kX6_number S hK hM hS hx29 ⟨Nat.le_of_ble_eq_true rfl, Nat.le_of_ble_eq_true rfl⟩ hl.1 (Nat.le_of_ble_eq_true rfl) dX6_statementTold_221 (fun H locs hM hS => ?_)
    replace h := ob h
    obtain ⟨σ30, hσ30, h⟩ := h
    refine m_iast S hK hM hS 47 rfl hσ30 dX6_statementTold_224 (fun H locs hM hS => ?_)
    refine lv_goto (tgt := 276) hx hb dX6_statementTold_225 (by decide) ?_
    exact wX6_statementTold_276 S hr hlk hK σ30 h _ _ hM hS _ (lv_sub hl [1] rfl)
  replace h := it c21 h
  refine lv_aload_n hx hb dX6_statementTold_228 rfl (lv_at hl 1 rfl) ?_
  refine lv_aload_n hx hb dX6_statementTold_229 rfl (lv_at hl 1 rfl) ?_
  refine m_get S hK hM 24 (Nat.le_of_ble_eq_true rfl) q1756 (v := .ref (ma b 24)) rfl dX6_statementTold_230 ?_
  replace h := ob h
  obtain ⟨x22, hx22, h⟩ := h
  refine kX6_takes S hK hM hS hx22 ⟨Nat.le_of_ble_eq_true rfl, Nat.le_of_ble_eq_true rfl⟩ hl.1 (Nat.le_of_ble_eq_true rfl) dX6_statementTold_233 (fun H locs hM hS => ?_)
  refine lv_if_eq (tgt := 255) hx hb dX6_statementTold_236 (by decide) (fun c23 => ?_) (fun c23 => ?_)
  rotate_left 1
  · replace h := ie c23 h
    refine lv_aload_n hx hb dX6_statementTold_239 rfl (lv_at hl 1 rfl) ?_
    refine m_get S hK hM 47 (Nat.le_of_ble_eq_true rfl) q1779 (v := .ref (ma b 47)) rfl dX6_statementTold_240 ?_
    refine lv_iconst (v := (2 : Int32)) hx hb dX6_statementTold_243 (by decide) ?_
    refine lv_aload_n hx hb dX6_statementTold_244 rfl (lv_at hl 1 rfl) ?_
    refine lv_iconst (v := (0 : Int32)) hx hb dX6_statementTold_245 (by decide) ?_
    refine lv_bipush (v := (99 : Int32)) hx hb dX6_statementTold_246 (by decide) ?_
    replace h := ob h
    obtain ⟨x27, hx27, h⟩ := h
    refine kX6_number S hK hM hS hx27 ⟨Nat.le_of_ble_eq_true rfl, Nat.le_of_ble_eq_true rfl⟩ hl.1 (Nat.le_of_ble_eq_true rfl) dX6_statementTold_248 (fun H locs hM hS => ?_)
    replace h := ob h
    obtain ⟨σ28, hσ28, h⟩ := h
    refine m_iast S hK hM hS 47 rfl hσ28 dX6_statementTold_251 (fun H locs hM hS => ?_)
    refine lv_goto (tgt := 276) hx hb dX6_statementTold_252 (by decide) ?_
    exact wX6_statementTold_276 S hr hlk hK σ28 h _ _ hM hS _ (lv_sub hl [1] rfl)
  replace h := it c23 h
  refine lv_aload_n hx hb dX6_statementTold_255 rfl (lv_at hl 1 rfl) ?_
  refine lv_aload_n hx hb dX6_statementTold_256 rfl (lv_at hl 1 rfl) ?_
  refine m_get S hK hM 25 (Nat.le_of_ble_eq_true rfl) q1757 (v := .ref (ma b 25)) rfl dX6_statementTold_257 ?_
  replace h := ob h
  obtain ⟨x24, hx24, h⟩ := h
  refine kX6_asks S hK hM hS hx24 ⟨Nat.le_of_ble_eq_true rfl, Nat.le_of_ble_eq_true rfl⟩ hl.1 (Nat.le_of_ble_eq_true rfl) dX6_statementTold_260 (fun H locs hM hS => ?_)
  refine lv_aload_n hx hb dX6_statementTold_263 rfl (lv_at hl 1 rfl) ?_
  refine m_get S hK hM 47 (Nat.le_of_ble_eq_true rfl) q1779 (v := .ref (ma b 47)) rfl dX6_statementTold_264 ?_
  refine lv_iconst (v := (3 : Int32)) hx hb dX6_statementTold_267 (by decide) ?_
  refine lv_aload_n hx hb dX6_statementTold_268 rfl (lv_at hl 1 rfl) ?_
  refine lv_iconst (v := (0 : Int32)) hx hb dX6_statementTold_269 (by decide) ?_
  refine lv_bipush (v := (100 : Int32)) hx hb dX6_statementTold_270 (by decide) ?_
  replace h := ob h
  obtain ⟨x25, hx25, h⟩ := h
  refine kX6_number S hK hM hS hx25 ⟨Nat.le_of_ble_eq_true rfl, Nat.le_of_ble_eq_true rfl⟩ hl.1 (Nat.le_of_ble_eq_true rfl) dX6_statementTold_272 (fun H locs hM hS => ?_)
  replace h := ob h
  obtain ⟨σ26, hσ26, h⟩ := h
  refine m_iast S hK hM hS 47 rfl hσ26 dX6_statementTold_275 (fun H locs hM hS => ?_)
  exact wX6_statementTold_276 S hr hlk hK σ26 h _ _ hM hS _ (lv_sub hl [1] rfl)
theorem kX6_statementTold {p : Program} {l : Launch} {e : Env} {R : Room} {s : State} {m : MethodId} {args : Array Value} {below : List Frame} {meth : Method} {c : Code} {H H0 : Heap} {locs : List Loc} {Q : State → Prop} {cc : ByteArray} {nL pc : Nat} {ls : Array Slot} {rest : List Value} {G : mG} {b : Nat} {σ : MS} {x : MS} (S : CallFix p m c cc nL s args lw_all RX6) (hK : mK G s) (hM : MW G b σ H) (hS : va_S (mB b) H0 H locs) (hf : fX6_statementTold σ = some x) (hR : rmX6_statementTold.frames + 1 ≤ R.frames ∧ 8 + (2 + 11) + rmX6_statementTold.locals ≤ R.locals) (hsize : ls.size = nL) (hr : (rest.map fun v => v.category).sum ≤ 8) (hdg : decode cc pc = .ok (.invokevirtual 384, 3)) (kk : ∀ (H1 : Heap) (locs1 : List Loc), MW G b x H1 → va_S (mB b) H0 H1 locs1 → W p l e R s m args below meth c H1 locs1 0 0 Q (F0 m (pc + 3) ls (rest))) : W p l e R s m args below meth c H locs 0 0 Q (F0 m pc ls (.ref b :: rest)) :=
  m_cVv (As := []) S hK hM hS (metX6_statementTold hf) (cwV 0 S.2.2.2.2 (lw_V q2058 q2060 qs66 q179 q2061) rfl rfl rfl (by decide +kernel) hR) ⟨Nat.zero_le _, Nat.zero_le _⟩ rfl hsize rfl hr hdg kk
/-! house()I -/
abbrev rmX6_house : Room := { frames := 12, cells := 0, slots := 0, locals := 240 }
def fX6_house_146 (σ : MS) : Option (MS × Int32) :=
  if ((sI (sI σ 7 (σ.1 5)) 8 ((sI σ 7 (σ.1 5)).1 6)).1 5) = 0 then
    (fX6_stands (sI (sI σ 7 (σ.1 5)) 8 ((sI σ 7 (σ.1 5)).1 6))).bind fun x2 =>
    some (x2, (x2.1 52))
  else
  (aI (sI (sI σ 7 (σ.1 5)) 8 ((sI σ 7 (σ.1 5)).1 6)) 9 (1 : Int32)).bind fun v3 =>
  (tI (sI (sI σ 7 (σ.1 5)) 8 ((sI σ 7 (σ.1 5)).1 6)) 9 (1 : Int32) (v3 + (1 : Int32))).bind fun σ4 =>
  some (σ4, (-1 : Int32))
def fX6_house_124 : Nat → MS → Option (MS × Int32)
  | 0, _ => none
  | n + 1, σ =>
    if (σ.1 5) = 0 then
      (fX6_look σ).bind fun x2 =>
      if x2.2 = (-1 : Int32) then
        fX6_house_146 x2.1
      else
      (fX6_statementTold x2.1).bind fun x4 =>
      fX6_house_124 n x4
    else
    fX6_house_146 σ
def fX6_house_77 : Nat → MS → Int32 → Option (MS × Int32)
  | 0, _, _ => none
  | n + 1, σ, a1 =>
    if (30 : Int32) ≤ a1 then
      (tI σ 47 (0 : Int32) (5 : Int32)).bind fun σ2 =>
      (tI σ2 47 (1 : Int32) (0 : Int32)).bind fun σ3 =>
      (tI σ3 47 (2 : Int32) (0 : Int32)).bind fun σ4 =>
      (tI σ4 47 (3 : Int32) (0 : Int32)).bind fun σ5 =>
      fX6_house_124 FU σ5
    else
    (tI σ 45 a1 (0 : Int32)).bind fun σ6 =>
    fX6_house_77 n σ6 (a1 + (1 : Int32))
def fX6_house_50 : Nat → MS → Int32 → Option (MS × Int32)
  | 0, _, _ => none
  | n + 1, σ, a1 =>
    if (3 : Int32) ≤ a1 then
      fX6_house_77 FU σ (0 : Int32)
    else
    (tI σ 40 a1 (0 : Int32)).bind fun σ2 =>
    (tI σ2 48 a1 (-1 : Int32)).bind fun σ3 =>
    fX6_house_50 n σ3 (a1 + (1 : Int32))
def fX6_house (σ : MS) : Option (MS × Int32) :=
  fX6_house_50 FU (sI (sI (sI (sI (sI (sI (sI (sI (sI σ 3 (σ.1 1)) 1 (0 : Int32)) 2 (0 : Int32)) 4 (-1 : Int32)) 5 (0 : Int32)) 6 (-1 : Int32)) 52 (0 : Int32)) 51 (0 : Int32)) 46 (0 : Int32)) (0 : Int32)
set_option maxHeartbeats 4000000 in
theorem wX6_house_146 {p : Program} {l : Launch} {e : Env} {s : State} {m : MethodId} {args : Array Value} {below : List Frame} {meth : Method} {c : Code} {G : mG} {b : Nat} (S : CallFix p m c cX6_house 2 s args lw_all RX6) (hr : meth.sig.returnType = some .int) (hlk : meth.locks = false) (hK : mK G s) {x : MS × Int32} : ∀ (σ : MS), fX6_house_146 σ = some x → mGo p l e rmX6_house s m args below meth c G b (MQ below (mQi G b x) args s 0 0 (mB b)) 2 146 [(0, .ref b)] [] σ := by
  obtain ⟨hx, hb, hml, hown, hts⟩ := id S
  intro σ h H locs hM hS ls hl
  unfold fX6_house_146 at h
  refine lv_aload_n hx hb dX6_house_146 rfl (lv_at hl 0 rfl) ?_
  refine lv_aload_n hx hb dX6_house_147 rfl (lv_at hl 0 rfl) ?_
  refine m_get S hK hM 5 (Nat.le_of_ble_eq_true rfl) q1737 (v := .int (σ.1 5)) rfl dX6_house_148 ?_
  refine m_putI S hK hM hS 7 (Nat.le_of_ble_eq_true rfl) rfl q1739 rfl (ty := .int) rfl rfl rfl dX6_house_151 (fun H locs hM hS => ?_)
  refine lv_aload_n hx hb dX6_house_154 rfl (lv_at hl 0 rfl) ?_
  refine lv_aload_n hx hb dX6_house_155 rfl (lv_at hl 0 rfl) ?_
  refine m_get S hK hM 6 (Nat.le_of_ble_eq_true rfl) q1738 (v := .int ((sI σ 7 (σ.1 5)).1 6)) rfl dX6_house_156 ?_
  refine m_putI S hK hM hS 8 (Nat.le_of_ble_eq_true rfl) rfl q1740 rfl (ty := .int) rfl rfl rfl dX6_house_159 (fun H locs hM hS => ?_)
  refine lv_aload_n hx hb dX6_house_162 rfl (lv_at hl 0 rfl) ?_
  refine m_get S hK hM 5 (Nat.le_of_ble_eq_true rfl) q1737 (v := .int ((sI (sI σ 7 (σ.1 5)) 8 ((sI σ 7 (σ.1 5)).1 6)).1 5)) rfl dX6_house_163 ?_
  refine lv_if_eq (tgt := 181) hx hb dX6_house_166 (by decide) (fun c1 => ?_) (fun c1 => ?_)
  · replace h := it c1 h
    refine lv_aload_n hx hb dX6_house_181 rfl (lv_at hl 0 rfl) ?_
    replace h := ob h
    obtain ⟨x2, hx2, h⟩ := h
    refine kX6_stands S hK hM hS hx2 ⟨Nat.le_of_ble_eq_true rfl, Nat.le_of_ble_eq_true rfl⟩ hl.1 (Nat.le_of_ble_eq_true rfl) dX6_house_182 (fun H locs hM hS => ?_)
    refine lv_aload_n hx hb dX6_house_185 rfl (lv_at hl 0 rfl) ?_
    refine m_get S hK hM 52 (Nat.le_of_ble_eq_true rfl) q1784 (v := .int (x2.1 52)) rfl dX6_house_186 ?_
    exact m_iret S hr hlk rfl hM hS h dX6_house_189
  replace h := ie c1 h
  refine lv_aload_n hx hb dX6_house_169 rfl (lv_at hl 0 rfl) ?_
  refine m_get S hK hM 9 (Nat.le_of_ble_eq_true rfl) q1741 (v := .ref (ma b 9)) rfl dX6_house_170 ?_
  refine lv_iconst (v := (1 : Int32)) hx hb dX6_house_173 (by decide) ?_
  refine lv_dup2_11 hx hb dX6_house_174 rfl rfl ?_
  replace h := ob h
  obtain ⟨v3, hv3, h⟩ := h
  refine m_iald S hK hM 9 rfl hv3 dX6_house_175 ?_
  refine lv_iconst (v := (1 : Int32)) hx hb dX6_house_176 (by decide) ?_
  refine lv_iadd hx hb dX6_house_177 ?_
  replace h := ob h
  obtain ⟨σ4, hσ4, h⟩ := h
  refine m_iast S hK hM hS 9 rfl hσ4 dX6_house_178 (fun H locs hM hS => ?_)
  refine lv_iconst (v := (-1 : Int32)) hx hb dX6_house_179 (by decide) ?_
  exact m_iret S hr hlk rfl hM hS h dX6_house_180
set_option maxHeartbeats 4000000 in
theorem wX6_house_124 {p : Program} {l : Launch} {e : Env} {s : State} {m : MethodId} {args : Array Value} {below : List Frame} {meth : Method} {c : Code} {G : mG} {b : Nat} (S : CallFix p m c cX6_house 2 s args lw_all RX6) (hr : meth.sig.returnType = some .int) (hlk : meth.locks = false) (hK : mK G s) {x : MS × Int32} : ∀ (n : Nat) (σ : MS), fX6_house_124 n σ = some x → mGo p l e rmX6_house s m args below meth c G b (MQ below (mQi G b x) args s 0 0 (mB b)) 2 124 [(0, .ref b)] [] σ := by
  obtain ⟨hx, hb, hml, hown, hts⟩ := id S
  intro n
  induction n with
  | zero => intro σ h; cases h
  | succ n ih =>
    intro σ h H locs hM hS ls hl
    rw [fX6_house_124] at h
    refine lv_aload_n hx hb dX6_house_124 rfl (lv_at hl 0 rfl) ?_
    refine m_get S hK hM 5 (Nat.le_of_ble_eq_true rfl) q1737 (v := .int (σ.1 5)) rfl dX6_house_125 ?_
    refine lv_if_ne (tgt := 146) hx hb dX6_house_128 (by decide) (fun c1 => ?_) (fun c1 => ?_)
    · replace h := ie c1 h
      exact wX6_house_146 S hr hlk hK σ h _ _ hM hS _ (lv_sub hl [0] rfl)
    replace h := it c1 h
    refine lv_aload_n hx hb dX6_house_131 rfl (lv_at hl 0 rfl) ?_
    replace h := ob h
    obtain ⟨x2, hx2, h⟩ := h
    refine kX6_look S hK hM hS hx2 ⟨Nat.le_of_ble_eq_true rfl, Nat.le_of_ble_eq_true rfl⟩ hl.1 (Nat.le_of_ble_eq_true rfl) dX6_house_132 (fun H locs hM hS => ?_)
    refine lv_iconst (v := (-1 : Int32)) hx hb dX6_house_135 (by decide) ?_
    refine lv_icmp_eq (tgt := 146) hx hb dX6_house_136 (by decide) (fun c3 => ?_) (fun c3 => ?_)
    · replace h := it c3 h
      exact wX6_house_146 S hr hlk hK x2.1 h _ _ hM hS _ (lv_sub hl [0] rfl)
    replace h := ie c3 h
    refine lv_aload_n hx hb dX6_house_139 rfl (lv_at hl 0 rfl) ?_
    replace h := ob h
    obtain ⟨x4, hx4, h⟩ := h
    refine kX6_statementTold S hK hM hS hx4 ⟨Nat.le_of_ble_eq_true rfl, Nat.le_of_ble_eq_true rfl⟩ hl.1 (Nat.le_of_ble_eq_true rfl) dX6_house_140 (fun H locs hM hS => ?_)
    refine lv_goto (tgt := 124) hx hb dX6_house_143 (by decide) ?_
    exact ih x4 h _ _ hM hS _ (lv_sub hl [0] rfl)
set_option maxHeartbeats 4000000 in
theorem wX6_house_77 {p : Program} {l : Launch} {e : Env} {s : State} {m : MethodId} {args : Array Value} {below : List Frame} {meth : Method} {c : Code} {G : mG} {b : Nat} (S : CallFix p m c cX6_house 2 s args lw_all RX6) (hr : meth.sig.returnType = some .int) (hlk : meth.locks = false) (hK : mK G s) {x : MS × Int32} : ∀ (n : Nat) (σ : MS) (a1 : Int32), fX6_house_77 n σ a1 = some x → mGo p l e rmX6_house s m args below meth c G b (MQ below (mQi G b x) args s 0 0 (mB b)) 2 77 [(0, .ref b), (1, .int a1)] [] σ := by
  obtain ⟨hx, hb, hml, hown, hts⟩ := id S
  intro n
  induction n with
  | zero => intro σ a1 h; cases h
  | succ n ih =>
    intro σ a1 h H locs hM hS ls hl
    rw [fX6_house_77] at h
    refine lv_iload_n hx hb dX6_house_77 rfl (lv_at hl 1 rfl) ?_
    refine lv_bipush (v := (30 : Int32)) hx hb dX6_house_78 (by decide) ?_
    refine lv_icmp_ge (tgt := 96) hx hb dX6_house_80 (by decide) (fun c1 => ?_) (fun c1 => ?_)
    rotate_left 1
    · replace h := ie c1 h
      refine lv_aload_n hx hb dX6_house_83 rfl (lv_at hl 0 rfl) ?_
      refine m_get S hK hM 45 (Nat.le_of_ble_eq_true rfl) q1777 (v := .ref (ma b 45)) rfl dX6_house_84 ?_
      refine lv_iload_n hx hb dX6_house_87 rfl (lv_at hl 1 rfl) ?_
      refine lv_iconst (v := (0 : Int32)) hx hb dX6_house_88 (by decide) ?_
      replace h := ob h
      obtain ⟨σ6, hσ6, h⟩ := h
      refine m_iast S hK hM hS 45 rfl hσ6 dX6_house_89 (fun H locs hM hS => ?_)
      refine lv_iinc (v := (a1 + (1 : Int32))) (lv' := [(1, .int (a1 + (1 : Int32))), (0, .ref b)]) hx hb dX6_house_90 hl (k := 1) rfl rfl (by decide) rfl (fun ls hl => ?_)
      refine lv_goto (tgt := 77) hx hb dX6_house_93 (by decide) ?_
      exact ih σ6 (a1 + (1 : Int32)) h _ _ hM hS _ (lv_sub hl [1, 0] rfl)
    replace h := it c1 h
    refine lv_aload_n hx hb dX6_house_96 rfl (lv_at hl 0 rfl) ?_
    refine m_get S hK hM 47 (Nat.le_of_ble_eq_true rfl) q1779 (v := .ref (ma b 47)) rfl dX6_house_97 ?_
    refine lv_iconst (v := (0 : Int32)) hx hb dX6_house_100 (by decide) ?_
    refine lv_iconst (v := (5 : Int32)) hx hb dX6_house_101 (by decide) ?_
    replace h := ob h
    obtain ⟨σ2, hσ2, h⟩ := h
    refine m_iast S hK hM hS 47 rfl hσ2 dX6_house_102 (fun H locs hM hS => ?_)
    refine lv_aload_n hx hb dX6_house_103 rfl (lv_at hl 0 rfl) ?_
    refine m_get S hK hM 47 (Nat.le_of_ble_eq_true rfl) q1779 (v := .ref (ma b 47)) rfl dX6_house_104 ?_
    refine lv_iconst (v := (1 : Int32)) hx hb dX6_house_107 (by decide) ?_
    refine lv_iconst (v := (0 : Int32)) hx hb dX6_house_108 (by decide) ?_
    replace h := ob h
    obtain ⟨σ3, hσ3, h⟩ := h
    refine m_iast S hK hM hS 47 rfl hσ3 dX6_house_109 (fun H locs hM hS => ?_)
    refine lv_aload_n hx hb dX6_house_110 rfl (lv_at hl 0 rfl) ?_
    refine m_get S hK hM 47 (Nat.le_of_ble_eq_true rfl) q1779 (v := .ref (ma b 47)) rfl dX6_house_111 ?_
    refine lv_iconst (v := (2 : Int32)) hx hb dX6_house_114 (by decide) ?_
    refine lv_iconst (v := (0 : Int32)) hx hb dX6_house_115 (by decide) ?_
    replace h := ob h
    obtain ⟨σ4, hσ4, h⟩ := h
    refine m_iast S hK hM hS 47 rfl hσ4 dX6_house_116 (fun H locs hM hS => ?_)
    refine lv_aload_n hx hb dX6_house_117 rfl (lv_at hl 0 rfl) ?_
    refine m_get S hK hM 47 (Nat.le_of_ble_eq_true rfl) q1779 (v := .ref (ma b 47)) rfl dX6_house_118 ?_
    refine lv_iconst (v := (3 : Int32)) hx hb dX6_house_121 (by decide) ?_
    refine lv_iconst (v := (0 : Int32)) hx hb dX6_house_122 (by decide) ?_
    replace h := ob h
    obtain ⟨σ5, hσ5, h⟩ := h
    refine m_iast S hK hM hS 47 rfl hσ5 dX6_house_123 (fun H locs hM hS => ?_)
    exact wX6_house_124 S hr hlk hK FU σ5 h _ _ hM hS _ (lv_sub hl [0] rfl)
set_option maxHeartbeats 4000000 in
theorem wX6_house_50 {p : Program} {l : Launch} {e : Env} {s : State} {m : MethodId} {args : Array Value} {below : List Frame} {meth : Method} {c : Code} {G : mG} {b : Nat} (S : CallFix p m c cX6_house 2 s args lw_all RX6) (hr : meth.sig.returnType = some .int) (hlk : meth.locks = false) (hK : mK G s) {x : MS × Int32} : ∀ (n : Nat) (σ : MS) (a1 : Int32), fX6_house_50 n σ a1 = some x → mGo p l e rmX6_house s m args below meth c G b (MQ below (mQi G b x) args s 0 0 (mB b)) 2 50 [(0, .ref b), (1, .int a1)] [] σ := by
  obtain ⟨hx, hb, hml, hown, hts⟩ := id S
  intro n
  induction n with
  | zero => intro σ a1 h; cases h
  | succ n ih =>
    intro σ a1 h H locs hM hS ls hl
    rw [fX6_house_50] at h
    refine lv_iload_n hx hb dX6_house_50 rfl (lv_at hl 1 rfl) ?_
    refine lv_iconst (v := (3 : Int32)) hx hb dX6_house_51 (by decide) ?_
    refine lv_icmp_ge (tgt := 75) hx hb dX6_house_52 (by decide) (fun c1 => ?_) (fun c1 => ?_)
    · replace h := it c1 h
      refine lv_iconst (v := (0 : Int32)) hx hb dX6_house_75 (by decide) ?_
      refine lv_istore_n (lv' := [(1, .int (0 : Int32)), (0, .ref b)]) hx hb dX6_house_76 rfl hl (by decide) rfl (fun ls hl => ?_)
      exact wX6_house_77 S hr hlk hK FU σ (0 : Int32) h _ _ hM hS _ (lv_sub hl [1, 0] rfl)
    replace h := ie c1 h
    refine lv_aload_n hx hb dX6_house_55 rfl (lv_at hl 0 rfl) ?_
    refine m_get S hK hM 40 (Nat.le_of_ble_eq_true rfl) q1772 (v := .ref (ma b 40)) rfl dX6_house_56 ?_
    refine lv_iload_n hx hb dX6_house_59 rfl (lv_at hl 1 rfl) ?_
    refine lv_iconst (v := (0 : Int32)) hx hb dX6_house_60 (by decide) ?_
    replace h := ob h
    obtain ⟨σ2, hσ2, h⟩ := h
    refine m_iast S hK hM hS 40 rfl hσ2 dX6_house_61 (fun H locs hM hS => ?_)
    refine lv_aload_n hx hb dX6_house_62 rfl (lv_at hl 0 rfl) ?_
    refine m_get S hK hM 48 (Nat.le_of_ble_eq_true rfl) q1780 (v := .ref (ma b 48)) rfl dX6_house_63 ?_
    refine lv_iload_n hx hb dX6_house_66 rfl (lv_at hl 1 rfl) ?_
    refine lv_iconst (v := (-1 : Int32)) hx hb dX6_house_67 (by decide) ?_
    replace h := ob h
    obtain ⟨σ3, hσ3, h⟩ := h
    refine m_iast S hK hM hS 48 rfl hσ3 dX6_house_68 (fun H locs hM hS => ?_)
    refine lv_iinc (v := (a1 + (1 : Int32))) (lv' := [(1, .int (a1 + (1 : Int32))), (0, .ref b)]) hx hb dX6_house_69 hl (k := 1) rfl rfl (by decide) rfl (fun ls hl => ?_)
    refine lv_goto (tgt := 50) hx hb dX6_house_72 (by decide) ?_
    exact ih σ3 (a1 + (1 : Int32)) h _ _ hM hS _ (lv_sub hl [1, 0] rfl)
set_option maxHeartbeats 4000000 in
theorem metX6_house {l : Launch} {G : mG} {b : Nat} {σ : MS} {x : MS × Int32} (h : fX6_house σ = some x) : Met l yX6_house (ws_ yX6_house cX6_house 2 (some .int)) rmX6_house (mP G b σ [.ref b]) (mQi G b x) 0 0 (mB b) := by
  refine m_entry (by decide) rfl (Nat.le_of_ble_eq_true rfl) ?_
  intro p e s m below meth c S hr hlk hK hM hS ls hl
  replace hl : lv_has ls 2 [(0, .ref b)] := hl
  obtain ⟨hx, hb, hml, hown, hts⟩ := id S
  unfold fX6_house at h
  refine lv_aload_n hx hb dX6_house_0 rfl (lv_at hl 0 rfl) ?_
  refine lv_aload_n hx hb dX6_house_1 rfl (lv_at hl 0 rfl) ?_
  refine m_get S hK hM 1 (Nat.le_of_ble_eq_true rfl) q1733 (v := .int (σ.1 1)) rfl dX6_house_2 ?_
  refine m_putI S hK hM hS 3 (Nat.le_of_ble_eq_true rfl) rfl q1735 rfl (ty := .int) rfl rfl rfl dX6_house_5 (fun H locs hM hS => ?_)
  refine lv_aload_n hx hb dX6_house_8 rfl (lv_at hl 0 rfl) ?_
  refine lv_iconst (v := (0 : Int32)) hx hb dX6_house_9 (by decide) ?_
  refine m_putI S hK hM hS 1 (Nat.le_of_ble_eq_true rfl) rfl q1733 rfl (ty := .int) rfl rfl rfl dX6_house_10 (fun H locs hM hS => ?_)
  refine lv_aload_n hx hb dX6_house_13 rfl (lv_at hl 0 rfl) ?_
  refine lv_iconst (v := (0 : Int32)) hx hb dX6_house_14 (by decide) ?_
  refine m_putI S hK hM hS 2 (Nat.le_of_ble_eq_true rfl) rfl q1734 rfl (ty := .int) rfl rfl rfl dX6_house_15 (fun H locs hM hS => ?_)
  refine lv_aload_n hx hb dX6_house_18 rfl (lv_at hl 0 rfl) ?_
  refine lv_iconst (v := (-1 : Int32)) hx hb dX6_house_19 (by decide) ?_
  refine m_putI S hK hM hS 4 (Nat.le_of_ble_eq_true rfl) rfl q1736 rfl (ty := .int) rfl rfl rfl dX6_house_20 (fun H locs hM hS => ?_)
  refine lv_aload_n hx hb dX6_house_23 rfl (lv_at hl 0 rfl) ?_
  refine lv_iconst (v := (0 : Int32)) hx hb dX6_house_24 (by decide) ?_
  refine m_putI S hK hM hS 5 (Nat.le_of_ble_eq_true rfl) rfl q1737 rfl (ty := .int) rfl rfl rfl dX6_house_25 (fun H locs hM hS => ?_)
  refine lv_aload_n hx hb dX6_house_28 rfl (lv_at hl 0 rfl) ?_
  refine lv_iconst (v := (-1 : Int32)) hx hb dX6_house_29 (by decide) ?_
  refine m_putI S hK hM hS 6 (Nat.le_of_ble_eq_true rfl) rfl q1738 rfl (ty := .int) rfl rfl rfl dX6_house_30 (fun H locs hM hS => ?_)
  refine lv_aload_n hx hb dX6_house_33 rfl (lv_at hl 0 rfl) ?_
  refine lv_iconst (v := (0 : Int32)) hx hb dX6_house_34 (by decide) ?_
  refine m_putI S hK hM hS 52 (Nat.le_of_ble_eq_true rfl) rfl q1784 rfl (ty := .int) rfl rfl rfl dX6_house_35 (fun H locs hM hS => ?_)
  refine lv_aload_n hx hb dX6_house_38 rfl (lv_at hl 0 rfl) ?_
  refine lv_iconst (v := (0 : Int32)) hx hb dX6_house_39 (by decide) ?_
  refine m_putI S hK hM hS 51 (Nat.le_of_ble_eq_true rfl) rfl q1783 rfl (ty := .int) rfl rfl rfl dX6_house_40 (fun H locs hM hS => ?_)
  refine lv_aload_n hx hb dX6_house_43 rfl (lv_at hl 0 rfl) ?_
  refine lv_iconst (v := (0 : Int32)) hx hb dX6_house_44 (by decide) ?_
  refine m_putI S hK hM hS 46 (Nat.le_of_ble_eq_true rfl) rfl q1778 rfl (ty := .int) rfl rfl rfl dX6_house_45 (fun H locs hM hS => ?_)
  refine lv_iconst (v := (0 : Int32)) hx hb dX6_house_48 (by decide) ?_
  refine lv_istore_n (lv' := [(1, .int (0 : Int32)), (0, .ref b)]) hx hb dX6_house_49 rfl hl (by decide) rfl (fun ls hl => ?_)
  exact wX6_house_50 S hr hlk hK FU (sI (sI (sI (sI (sI (sI (sI (sI (sI σ 3 (σ.1 1)) 1 (0 : Int32)) 2 (0 : Int32)) 4 (-1 : Int32)) 5 (0 : Int32)) 6 (-1 : Int32)) 52 (0 : Int32)) 51 (0 : Int32)) 46 (0 : Int32)) (0 : Int32) h _ _ hM hS _ (lv_sub hl [1, 0] rfl)
/-! fault(I)I -/
abbrev rmX6_fault : Room := { frames := 1, cells := 0, slots := 0, locals := 0 }
def fX6_fault (σ : MS) (a1 : Int32) : Option (Int32) :=
  if a1 = 0 then
    some (σ.1 7)
  else
  if a1 = (1 : Int32) then
    some (σ.1 8)
  else
  some (-1 : Int32)
set_option maxHeartbeats 4000000 in
theorem metX6_fault {l : Launch} {G : mG} {b : Nat} {σ : MS} {a1 : Int32} {x : Int32} (h : fX6_fault σ a1 = some x) : Met l yX6_fault (ws_ yX6_fault cX6_fault 2 (some .int)) rmX6_fault (mP G b σ [.ref b, .int a1]) (mQi G b (σ, x)) 0 0 (mB b) := by
  refine m_entry (by decide) rfl (Nat.le_of_ble_eq_true rfl) ?_
  intro p e s m below meth c S hr hlk hK hM hS ls hl
  replace hl : lv_has ls 2 [(0, .ref b), (1, .int a1)] := hl
  obtain ⟨hx, hb, hml, hown, hts⟩ := id S
  unfold fX6_fault at h
  refine lv_iload_n hx hb dX6_fault_0 rfl (lv_at hl 1 rfl) ?_
  refine lv_if_ne (tgt := 11) hx hb dX6_fault_1 (by decide) (fun c1 => ?_) (fun c1 => ?_)
  rotate_left 1
  · replace h := it c1 h
    refine lv_aload_n hx hb dX6_fault_4 rfl (lv_at hl 0 rfl) ?_
    refine m_get S hK hM 7 (Nat.le_of_ble_eq_true rfl) q1739 (v := .int (σ.1 7)) rfl dX6_fault_5 ?_
    refine lv_goto (tgt := 24) hx hb dX6_fault_8 (by decide) ?_
    exact m_iret' S hr hlk rfl hM hS h dX6_fault_24
  replace h := ie c1 h
  refine lv_iload_n hx hb dX6_fault_11 rfl (lv_at hl 1 rfl) ?_
  refine lv_iconst (v := (1 : Int32)) hx hb dX6_fault_12 (by decide) ?_
  refine lv_icmp_ne (tgt := 23) hx hb dX6_fault_13 (by decide) (fun c2 => ?_) (fun c2 => ?_)
  · replace h := ie c2 h
    refine lv_iconst (v := (-1 : Int32)) hx hb dX6_fault_23 (by decide) ?_
    exact m_iret' S hr hlk rfl hM hS h dX6_fault_24
  replace h := it c2 h
  refine lv_aload_n hx hb dX6_fault_16 rfl (lv_at hl 0 rfl) ?_
  refine m_get S hK hM 8 (Nat.le_of_ble_eq_true rfl) q1740 (v := .int (σ.1 8)) rfl dX6_fault_17 ?_
  refine lv_goto (tgt := 24) hx hb dX6_fault_20 (by decide) ?_
  exact m_iret' S hr hlk rfl hM hS h dX6_fault_24
/-! bits(I)I -/
abbrev rmX6_bits : Room := { frames := 1, cells := 0, slots := 0, locals := 0 }
def fX6_bits_4 (σ : MS) : Nat → Int32 → Int32 → Option (Int32)
  | 0, _, _ => none
  | n + 1, a1, a2 =>
    if a2 = 0 then
      some a1
    else
    fX6_bits_4 σ n (a1 + (1 : Int32)) (a2 &&& (a2 - (1 : Int32)))
def fX6_bits (σ : MS) (a0 : Int32) : Option (Int32) :=
  fX6_bits_4 σ FU (0 : Int32) a0
set_option maxHeartbeats 4000000 in
theorem wX6_bits_4 {p : Program} {l : Launch} {e : Env} {s : State} {m : MethodId} {args : Array Value} {below : List Frame} {meth : Method} {c : Code} {G : mG} {b : Nat} {σ : MS} (S : CallFix p m c cX6_bits 3 s args lw_all RX6) (hr : meth.sig.returnType = some .int) (hlk : meth.locks = false) (hK : mK G s) {x : Int32} : ∀ (n : Nat) (a1 : Int32) (a2 : Int32), fX6_bits_4 σ n a1 a2 = some x → mGo p l e rmX6_bits s m args below meth c G b (MQ below (mQi G b (σ, x)) args s 0 0 (mB b)) 3 4 [(1, .int a1), (2, .int a2)] [] σ := by
  obtain ⟨hx, hb, hml, hown, hts⟩ := id S
  intro n
  induction n with
  | zero => intro a1 a2 h; cases h
  | succ n ih =>
    intro a1 a2 h H locs hM hS ls hl
    rw [fX6_bits_4] at h
    refine lv_iload_n hx hb dX6_bits_4 rfl (lv_at hl 1 rfl) ?_
    refine lv_if_eq (tgt := 20) hx hb dX6_bits_5 (by decide) (fun c1 => ?_) (fun c1 => ?_)
    · replace h := it c1 h
      refine lv_iload_n hx hb dX6_bits_20 rfl (lv_at hl 0 rfl) ?_
      exact m_iret' S hr hlk rfl hM hS h dX6_bits_21
    replace h := ie c1 h
    refine lv_iinc (v := (a1 + (1 : Int32))) (lv' := [(1, .int (a1 + (1 : Int32))), (2, .int a2)]) hx hb dX6_bits_8 hl (k := 0) rfl rfl (by decide) rfl (fun ls hl => ?_)
    refine lv_iload_n hx hb dX6_bits_11 rfl (lv_at hl 1 rfl) ?_
    refine lv_iload_n hx hb dX6_bits_12 rfl (lv_at hl 1 rfl) ?_
    refine lv_iconst (v := (1 : Int32)) hx hb dX6_bits_13 (by decide) ?_
    refine lv_isub hx hb dX6_bits_14 ?_
    refine lv_iand hx hb dX6_bits_15 ?_
    refine lv_istore_n (lv' := [(2, .int (a2 &&& (a2 - (1 : Int32)))), (1, .int (a1 + (1 : Int32)))]) hx hb dX6_bits_16 rfl hl (by decide) rfl (fun ls hl => ?_)
    refine lv_goto (tgt := 4) hx hb dX6_bits_17 (by decide) ?_
    exact ih (a1 + (1 : Int32)) (a2 &&& (a2 - (1 : Int32))) h _ _ hM hS _ (lv_sub hl [1, 0] rfl)
set_option maxHeartbeats 4000000 in
theorem metX6_bits {l : Launch} {G : mG} {b : Nat} {σ : MS} {a0 : Int32} {x : Int32} (h : fX6_bits σ a0 = some x) : Met l yX6_bits (ws_ yX6_bits cX6_bits 3 (some .int)) rmX6_bits (mP G b σ [.int a0]) (mQi G b (σ, x)) 0 0 (mB b) := by
  refine m_entry (by decide) rfl (Nat.le_of_ble_eq_true rfl) ?_
  intro p e s m below meth c S hr hlk hK hM hS ls hl
  replace hl : lv_has ls 3 [(0, .int a0)] := hl
  obtain ⟨hx, hb, hml, hown, hts⟩ := id S
  unfold fX6_bits at h
  refine lv_iconst (v := (0 : Int32)) hx hb dX6_bits_0 (by decide) ?_
  refine lv_istore_n (lv' := [(1, .int (0 : Int32)), (0, .int a0)]) hx hb dX6_bits_1 rfl hl (by decide) rfl (fun ls hl => ?_)
  refine lv_iload_n hx hb dX6_bits_2 rfl (lv_at hl 1 rfl) ?_
  refine lv_istore_n (lv' := [(2, .int a0), (1, .int (0 : Int32)), (0, .int a0)]) hx hb dX6_bits_3 rfl hl (by decide) rfl (fun ls hl => ?_)
  exact wX6_bits_4 S hr hlk hK FU (0 : Int32) a0 h _ _ hM hS _ (lv_sub hl [1, 0] rfl)
theorem kX6_bits {p : Program} {l : Launch} {e : Env} {R : Room} {s : State} {m : MethodId} {args : Array Value} {below : List Frame} {meth : Method} {c : Code} {H H0 : Heap} {locs : List Loc} {Q : State → Prop} {cc : ByteArray} {nL pc : Nat} {ls : Array Slot} {rest : List Value} {G : mG} {b : Nat} {σ : MS} {a0 : Int32} {x : Int32} (S : CallFix p m c cc nL s args lw_all RX6) (hK : mK G s) (hM : MW G b σ H) (hS : va_S (mB b) H0 H locs) (hf : fX6_bits σ a0 = some x) (hR : rmX6_bits.frames + 1 ≤ R.frames ∧ 8 + (3 + 11) + rmX6_bits.locals ≤ R.locals) (hsize : ls.size = nL) (hr : (rest.map fun v => v.category).sum ≤ 8) (hdg : decode cc pc = .ok (.invokestatic 514, 3)) (kk : ∀ (H1 : Heap) (locs1 : List Loc), MW G b σ H1 → va_S (mB b) H0 H1 locs1 → W p l e R s m args below meth c H1 locs1 0 0 Q (F0 m (pc + 3) ls (.int x :: rest))) : W p l e R s m args below meth c H locs 0 0 Q (F0 m pc ls (.int a0 :: rest)) :=
  m_cSi (As := [.int a0]) S hK hM hS (metX6_bits hf) (va_cwS 1 S.2.2.2.2 (lw_S q2262 q2263 q179 q2264) rfl rfl rfl (by decide +kernel) hR) ⟨Nat.zero_le _, Nat.zero_le _⟩ rfl hsize rfl hr hdg kk
/-! hoursOf(I)I -/
abbrev rmX6_hoursOf : Room := { frames := 1, cells := 0, slots := 0, locals := 0 }
def fX6_hoursOf (σ : MS) (a1 : Int32) : Option (Int32) :=
  (aI σ 54 (((86 : Int32) + ((2 : Int32) * a1)) + (1 : Int32))).bind fun v1 =>
  some v1
set_option maxHeartbeats 4000000 in
theorem metX6_hoursOf {l : Launch} {G : mG} {b : Nat} {σ : MS} {a1 : Int32} {x : Int32} (h : fX6_hoursOf σ a1 = some x) : Met l yX6_hoursOf (ws_ yX6_hoursOf cX6_hoursOf 2 (some .int)) rmX6_hoursOf (mP G b σ [.ref b, .int a1]) (mQi G b (σ, x)) 0 0 (mB b) := by
  refine m_entry (by decide) rfl (Nat.le_of_ble_eq_true rfl) ?_
  intro p e s m below meth c S hr hlk hK hM hS ls hl
  replace hl : lv_has ls 2 [(0, .ref b), (1, .int a1)] := hl
  obtain ⟨hx, hb, hml, hown, hts⟩ := id S
  unfold fX6_hoursOf at h
  refine lv_aload_n hx hb dX6_hoursOf_0 rfl (lv_at hl 0 rfl) ?_
  refine m_get S hK hM 54 (Nat.le_of_ble_eq_true rfl) q1786 (v := .ref (ma b 54)) rfl dX6_hoursOf_1 ?_
  refine lv_bipush (v := (86 : Int32)) hx hb dX6_hoursOf_4 (by decide) ?_
  refine lv_iconst (v := (2 : Int32)) hx hb dX6_hoursOf_6 (by decide) ?_
  refine lv_iload_n hx hb dX6_hoursOf_7 rfl (lv_at hl 1 rfl) ?_
  refine lv_imul hx hb dX6_hoursOf_8 ?_
  refine lv_iadd hx hb dX6_hoursOf_9 ?_
  refine lv_iconst (v := (1 : Int32)) hx hb dX6_hoursOf_10 (by decide) ?_
  refine lv_iadd hx hb dX6_hoursOf_11 ?_
  replace h := ob h
  obtain ⟨v1, hv1, h⟩ := h
  refine m_iald S hK hM 54 rfl hv1 dX6_hoursOf_12 ?_
  exact m_iret' S hr hlk rfl hM hS h dX6_hoursOf_13
theorem kX6_hoursOf {p : Program} {l : Launch} {e : Env} {R : Room} {s : State} {m : MethodId} {args : Array Value} {below : List Frame} {meth : Method} {c : Code} {H H0 : Heap} {locs : List Loc} {Q : State → Prop} {cc : ByteArray} {nL pc : Nat} {ls : Array Slot} {rest : List Value} {G : mG} {b : Nat} {σ : MS} {a1 : Int32} {x : Int32} (S : CallFix p m c cc nL s args lw_all RX6) (hK : mK G s) (hM : MW G b σ H) (hS : va_S (mB b) H0 H locs) (hf : fX6_hoursOf σ a1 = some x) (hR : rmX6_hoursOf.frames + 1 ≤ R.frames ∧ 8 + (2 + 11) + rmX6_hoursOf.locals ≤ R.locals) (hsize : ls.size = nL) (hr : (rest.map fun v => v.category).sum ≤ 8) (hdg : decode cc pc = .ok (.invokevirtual 508, 3)) (kk : ∀ (H1 : Heap) (locs1 : List Loc), MW G b σ H1 → va_S (mB b) H0 H1 locs1 → W p l e R s m args below meth c H1 locs1 0 0 Q (F0 m (pc + 3) ls (.int x :: rest))) : W p l e R s m args below meth c H locs 0 0 Q (F0 m pc ls (.int a1 :: .ref b :: rest)) :=
  m_cVi (As := [.int a1]) S hK hM hS (metX6_hoursOf hf) (cwV 1 S.2.2.2.2 (lw_V q2269 q2271 qs112 q179 q2272) rfl rfl rfl (by decide +kernel) hR) ⟨Nat.zero_le _, Nat.zero_le _⟩ rfl hsize rfl hr hdg kk
/-! hoursAll()I -/
abbrev rmX6_hoursAll : Room := { frames := 2, cells := 0, slots := 0, locals := 21 }
def fX6_hoursAll_4 (σ : MS) : Nat → Int32 → Int32 → Option (Int32)
  | 0, _, _ => none
  | n + 1, a1, a2 =>
    (fX6_personMany σ).bind fun x1 =>
    if x1 ≤ a2 then
      some a1
    else
    (fX6_hoursOf σ a2).bind fun x3 =>
    fX6_hoursAll_4 σ n (a1 + x3) (a2 + (1 : Int32))
def fX6_hoursAll (σ : MS) : Option (Int32) :=
  fX6_hoursAll_4 σ FU (0 : Int32) (0 : Int32)
set_option maxHeartbeats 4000000 in
theorem wX6_hoursAll_4 {p : Program} {l : Launch} {e : Env} {s : State} {m : MethodId} {args : Array Value} {below : List Frame} {meth : Method} {c : Code} {G : mG} {b : Nat} {σ : MS} (S : CallFix p m c cX6_hoursAll 3 s args lw_all RX6) (hr : meth.sig.returnType = some .int) (hlk : meth.locks = false) (hK : mK G s) {x : Int32} : ∀ (n : Nat) (a1 : Int32) (a2 : Int32), fX6_hoursAll_4 σ n a1 a2 = some x → mGo p l e rmX6_hoursAll s m args below meth c G b (MQ below (mQi G b (σ, x)) args s 0 0 (mB b)) 3 4 [(0, .ref b), (1, .int a1), (2, .int a2)] [] σ := by
  obtain ⟨hx, hb, hml, hown, hts⟩ := id S
  intro n
  induction n with
  | zero => intro a1 a2 h; cases h
  | succ n ih =>
    intro a1 a2 h H locs hM hS ls hl
    rw [fX6_hoursAll_4] at h
    refine lv_iload_n hx hb dX6_hoursAll_4 rfl (lv_at hl 2 rfl) ?_
    refine lv_aload_n hx hb dX6_hoursAll_5 rfl (lv_at hl 0 rfl) ?_
    replace h := ob h
    obtain ⟨x1, hx1, h⟩ := h
    refine kX6_personMany S hK hM hS hx1 ⟨Nat.le_of_ble_eq_true rfl, Nat.le_of_ble_eq_true rfl⟩ hl.1 (Nat.le_of_ble_eq_true rfl) dX6_hoursAll_6 (fun H locs hM hS => ?_)
    refine lv_icmp_ge (tgt := 26) hx hb dX6_hoursAll_9 (by decide) (fun c2 => ?_) (fun c2 => ?_)
    · replace h := it c2 h
      refine lv_iload_n hx hb dX6_hoursAll_26 rfl (lv_at hl 1 rfl) ?_
      exact m_iret' S hr hlk rfl hM hS h dX6_hoursAll_27
    replace h := ie c2 h
    refine lv_iload_n hx hb dX6_hoursAll_12 rfl (lv_at hl 1 rfl) ?_
    refine lv_aload_n hx hb dX6_hoursAll_13 rfl (lv_at hl 0 rfl) ?_
    refine lv_iload_n hx hb dX6_hoursAll_14 rfl (lv_at hl 2 rfl) ?_
    replace h := ob h
    obtain ⟨x3, hx3, h⟩ := h
    refine kX6_hoursOf S hK hM hS hx3 ⟨Nat.le_of_ble_eq_true rfl, Nat.le_of_ble_eq_true rfl⟩ hl.1 (Nat.le_of_ble_eq_true rfl) dX6_hoursAll_15 (fun H locs hM hS => ?_)
    refine lv_iadd hx hb dX6_hoursAll_18 ?_
    refine lv_istore_n (lv' := [(1, .int (a1 + x3)), (0, .ref b), (2, .int a2)]) hx hb dX6_hoursAll_19 rfl hl (by decide) rfl (fun ls hl => ?_)
    refine lv_iinc (v := (a2 + (1 : Int32))) (lv' := [(2, .int (a2 + (1 : Int32))), (1, .int (a1 + x3)), (0, .ref b)]) hx hb dX6_hoursAll_20 hl (k := 2) rfl rfl (by decide) rfl (fun ls hl => ?_)
    refine lv_goto (tgt := 4) hx hb dX6_hoursAll_23 (by decide) ?_
    exact ih (a1 + x3) (a2 + (1 : Int32)) h _ _ hM hS _ (lv_sub hl [2, 1, 0] rfl)
set_option maxHeartbeats 4000000 in
theorem metX6_hoursAll {l : Launch} {G : mG} {b : Nat} {σ : MS} {x : Int32} (h : fX6_hoursAll σ = some x) : Met l yX6_hoursAll (ws_ yX6_hoursAll cX6_hoursAll 3 (some .int)) rmX6_hoursAll (mP G b σ [.ref b]) (mQi G b (σ, x)) 0 0 (mB b) := by
  refine m_entry (by decide) rfl (Nat.le_of_ble_eq_true rfl) ?_
  intro p e s m below meth c S hr hlk hK hM hS ls hl
  replace hl : lv_has ls 3 [(0, .ref b)] := hl
  obtain ⟨hx, hb, hml, hown, hts⟩ := id S
  unfold fX6_hoursAll at h
  refine lv_iconst (v := (0 : Int32)) hx hb dX6_hoursAll_0 (by decide) ?_
  refine lv_istore_n (lv' := [(1, .int (0 : Int32)), (0, .ref b)]) hx hb dX6_hoursAll_1 rfl hl (by decide) rfl (fun ls hl => ?_)
  refine lv_iconst (v := (0 : Int32)) hx hb dX6_hoursAll_2 (by decide) ?_
  refine lv_istore_n (lv' := [(2, .int (0 : Int32)), (1, .int (0 : Int32)), (0, .ref b)]) hx hb dX6_hoursAll_3 rfl hl (by decide) rfl (fun ls hl => ?_)
  exact wX6_hoursAll_4 S hr hlk hK FU (0 : Int32) (0 : Int32) h _ _ hM hS _ (lv_sub hl [2, 1, 0] rfl)
theorem kX6_hoursAll {p : Program} {l : Launch} {e : Env} {R : Room} {s : State} {m : MethodId} {args : Array Value} {below : List Frame} {meth : Method} {c : Code} {H H0 : Heap} {locs : List Loc} {Q : State → Prop} {cc : ByteArray} {nL pc : Nat} {ls : Array Slot} {rest : List Value} {G : mG} {b : Nat} {σ : MS} {x : Int32} (S : CallFix p m c cc nL s args lw_all RX6) (hK : mK G s) (hM : MW G b σ H) (hS : va_S (mB b) H0 H locs) (hf : fX6_hoursAll σ = some x) (hR : rmX6_hoursAll.frames + 1 ≤ R.frames ∧ 8 + (3 + 11) + rmX6_hoursAll.locals ≤ R.locals) (hsize : ls.size = nL) (hr : (rest.map fun v => v.category).sum ≤ 8) (hdg : decode cc pc = .ok (.invokevirtual 517, 3)) (kk : ∀ (H1 : Heap) (locs1 : List Loc), MW G b σ H1 → va_S (mB b) H0 H1 locs1 → W p l e R s m args below meth c H1 locs1 0 0 Q (F0 m (pc + 3) ls (.int x :: rest))) : W p l e R s m args below meth c H locs 0 0 Q (F0 m pc ls (.ref b :: rest)) :=
  m_cVi (As := []) S hK hM hS (metX6_hoursAll hf) (cwV 0 S.2.2.2.2 (lw_V q2265 q2267 qs111 q179 q2268) rfl rfl rfl (by decide +kernel) hR) ⟨Nat.zero_le _, Nat.zero_le _⟩ rfl hsize rfl hr hdg kk
/-! doesPress(I)Z -/
abbrev rmX6_doesPress : Room := { frames := 1, cells := 0, slots := 0, locals := 0 }
def fX6_doesPress (σ : MS) (a1 : Int32) : Option (Int32) :=
  (aI σ 54 ((86 : Int32) + ((2 : Int32) * a1))).bind fun v1 =>
  if v1 = (1 : Int32) then
    some (1 : Int32)
  else
  some (0 : Int32)
set_option maxHeartbeats 4000000 in
theorem metX6_doesPress {l : Launch} {G : mG} {b : Nat} {σ : MS} {a1 : Int32} {x : Int32} (h : fX6_doesPress σ a1 = some x) : Met l yX6_doesPress (ws_ yX6_doesPress cX6_doesPress 2 (some .boolean)) rmX6_doesPress (mP G b σ [.ref b, .int a1]) (mQi G b (σ, x)) 0 0 (mB b) := by
  refine m_entry (by decide) rfl (Nat.le_of_ble_eq_true rfl) ?_
  intro p e s m below meth c S hr hlk hK hM hS ls hl
  replace hl : lv_has ls 2 [(0, .ref b), (1, .int a1)] := hl
  obtain ⟨hx, hb, hml, hown, hts⟩ := id S
  unfold fX6_doesPress at h
  refine lv_aload_n hx hb dX6_doesPress_0 rfl (lv_at hl 0 rfl) ?_
  refine m_get S hK hM 54 (Nat.le_of_ble_eq_true rfl) q1786 (v := .ref (ma b 54)) rfl dX6_doesPress_1 ?_
  refine lv_bipush (v := (86 : Int32)) hx hb dX6_doesPress_4 (by decide) ?_
  refine lv_iconst (v := (2 : Int32)) hx hb dX6_doesPress_6 (by decide) ?_
  refine lv_iload_n hx hb dX6_doesPress_7 rfl (lv_at hl 1 rfl) ?_
  refine lv_imul hx hb dX6_doesPress_8 ?_
  refine lv_iadd hx hb dX6_doesPress_9 ?_
  replace h := ob h
  obtain ⟨v1, hv1, h⟩ := h
  refine m_iald S hK hM 54 rfl hv1 dX6_doesPress_10 ?_
  refine lv_iconst (v := (1 : Int32)) hx hb dX6_doesPress_11 (by decide) ?_
  refine lv_icmp_ne (tgt := 19) hx hb dX6_doesPress_12 (by decide) (fun c2 => ?_) (fun c2 => ?_)
  · replace h := ie c2 h
    refine lv_iconst (v := (0 : Int32)) hx hb dX6_doesPress_19 (by decide) ?_
    exact m_iret' S hr hlk rfl hM hS h dX6_doesPress_20
  replace h := it c2 h
  refine lv_iconst (v := (1 : Int32)) hx hb dX6_doesPress_15 (by decide) ?_
  refine lv_goto (tgt := 20) hx hb dX6_doesPress_16 (by decide) ?_
  exact m_iret' S hr hlk rfl hM hS h dX6_doesPress_20
theorem kX6_doesPress {p : Program} {l : Launch} {e : Env} {R : Room} {s : State} {m : MethodId} {args : Array Value} {below : List Frame} {meth : Method} {c : Code} {H H0 : Heap} {locs : List Loc} {Q : State → Prop} {cc : ByteArray} {nL pc : Nat} {ls : Array Slot} {rest : List Value} {G : mG} {b : Nat} {σ : MS} {a1 : Int32} {x : Int32} (S : CallFix p m c cc nL s args lw_all RX6) (hK : mK G s) (hM : MW G b σ H) (hS : va_S (mB b) H0 H locs) (hf : fX6_doesPress σ a1 = some x) (hR : rmX6_doesPress.frames + 1 ≤ R.frames ∧ 8 + (2 + 11) + rmX6_doesPress.locals ≤ R.locals) (hsize : ls.size = nL) (hr : (rest.map fun v => v.category).sum ≤ 8) (hdg : decode cc pc = .ok (.invokevirtual 411, 3)) (kk : ∀ (H1 : Heap) (locs1 : List Loc), MW G b σ H1 → va_S (mB b) H0 H1 locs1 → W p l e R s m args below meth c H1 locs1 0 0 Q (F0 m (pc + 3) ls (.int x :: rest))) : W p l e R s m args below meth c H locs 0 0 Q (F0 m pc ls (.int a1 :: .ref b :: rest)) :=
  m_cVi (As := [.int a1]) S hK hM hS (metX6_doesPress hf) (cwV 1 S.2.2.2.2 (lw_V q2258 q2260 qs110 q179 q2261) rfl rfl rfl (by decide +kernel) hR) ⟨Nat.zero_le _, Nat.zero_le _⟩ rfl hsize rfl hr hdg kk
/-! pressers()I -/
abbrev rmX6_pressers : Room := { frames := 2, cells := 0, slots := 0, locals := 21 }
def fX6_pressers_26 (σ : MS) (k4 : Int32 → Int32 → Option (Int32)) (a1 : Int32) (a2 : Int32) : Option (Int32) :=
  k4 a1 (a2 + (1 : Int32))
def fX6_pressers_4 (σ : MS) : Nat → Int32 → Int32 → Option (Int32)
  | 0, _, _ => none
  | n + 1, a1, a2 =>
    (fX6_personMany σ).bind fun x1 =>
    if x1 ≤ a2 then
      some a1
    else
    (fX6_doesPress σ a2).bind fun x3 =>
    if x3 = 0 then
      fX6_pressers_26 σ (fun b1 b2 => fX6_pressers_4 σ n b1 b2) a1 a2
    else
    fX6_pressers_26 σ (fun b1 b2 => fX6_pressers_4 σ n b1 b2) (a1 ||| ((1 : Int32) <<< (a2 &&& 31))) a2
def fX6_pressers (σ : MS) : Option (Int32) :=
  fX6_pressers_4 σ FU (0 : Int32) (0 : Int32)
set_option maxHeartbeats 4000000 in
theorem wX6_pressers_26 {p : Program} {l : Launch} {e : Env} {s : State} {m : MethodId} {args : Array Value} {below : List Frame} {meth : Method} {c : Code} {G : mG} {b : Nat} {σ : MS} (S : CallFix p m c cX6_pressers 3 s args lw_all RX6) (hr : meth.sig.returnType = some .int) (hlk : meth.locks = false) (hK : mK G s) {x : Int32} {k4 : Int32 → Int32 → Option (Int32)} (hk4 : ∀ a1 a2, k4 a1 a2 = some x → mGo p l e rmX6_pressers s m args below meth c G b (MQ below (mQi G b (σ, x)) args s 0 0 (mB b)) 3 4 [(0, .ref b), (1, .int a1), (2, .int a2)] [] σ) : ∀ (a1 : Int32) (a2 : Int32), fX6_pressers_26 σ k4 a1 a2 = some x → mGo p l e rmX6_pressers s m args below meth c G b (MQ below (mQi G b (σ, x)) args s 0 0 (mB b)) 3 26 [(0, .ref b), (1, .int a1), (2, .int a2)] [] σ := by
  obtain ⟨hx, hb, hml, hown, hts⟩ := id S
  intro a1 a2 h H locs hM hS ls hl
  unfold fX6_pressers_26 at h
  refine lv_iinc (v := (a2 + (1 : Int32))) (lv' := [(2, .int (a2 + (1 : Int32))), (0, .ref b), (1, .int a1)]) hx hb dX6_pressers_26 hl (k := 2) rfl rfl (by decide) rfl (fun ls hl => ?_)
  refine lv_goto (tgt := 4) hx hb dX6_pressers_29 (by decide) ?_
  exact hk4 a1 (a2 + (1 : Int32)) h _ _ hM hS _ (lv_sub hl [1, 2, 0] rfl)
set_option maxHeartbeats 4000000 in
theorem wX6_pressers_4 {p : Program} {l : Launch} {e : Env} {s : State} {m : MethodId} {args : Array Value} {below : List Frame} {meth : Method} {c : Code} {G : mG} {b : Nat} {σ : MS} (S : CallFix p m c cX6_pressers 3 s args lw_all RX6) (hr : meth.sig.returnType = some .int) (hlk : meth.locks = false) (hK : mK G s) {x : Int32} : ∀ (n : Nat) (a1 : Int32) (a2 : Int32), fX6_pressers_4 σ n a1 a2 = some x → mGo p l e rmX6_pressers s m args below meth c G b (MQ below (mQi G b (σ, x)) args s 0 0 (mB b)) 3 4 [(0, .ref b), (1, .int a1), (2, .int a2)] [] σ := by
  obtain ⟨hx, hb, hml, hown, hts⟩ := id S
  intro n
  induction n with
  | zero => intro a1 a2 h; cases h
  | succ n ih =>
    intro a1 a2 h H locs hM hS ls hl
    rw [fX6_pressers_4] at h
    refine lv_iload_n hx hb dX6_pressers_4 rfl (lv_at hl 2 rfl) ?_
    refine lv_aload_n hx hb dX6_pressers_5 rfl (lv_at hl 0 rfl) ?_
    replace h := ob h
    obtain ⟨x1, hx1, h⟩ := h
    refine kX6_personMany S hK hM hS hx1 ⟨Nat.le_of_ble_eq_true rfl, Nat.le_of_ble_eq_true rfl⟩ hl.1 (Nat.le_of_ble_eq_true rfl) dX6_pressers_6 (fun H locs hM hS => ?_)
    refine lv_icmp_ge (tgt := 32) hx hb dX6_pressers_9 (by decide) (fun c2 => ?_) (fun c2 => ?_)
    · replace h := it c2 h
      refine lv_iload_n hx hb dX6_pressers_32 rfl (lv_at hl 1 rfl) ?_
      exact m_iret' S hr hlk rfl hM hS h dX6_pressers_33
    replace h := ie c2 h
    refine lv_aload_n hx hb dX6_pressers_12 rfl (lv_at hl 0 rfl) ?_
    refine lv_iload_n hx hb dX6_pressers_13 rfl (lv_at hl 2 rfl) ?_
    replace h := ob h
    obtain ⟨x3, hx3, h⟩ := h
    refine kX6_doesPress S hK hM hS hx3 ⟨Nat.le_of_ble_eq_true rfl, Nat.le_of_ble_eq_true rfl⟩ hl.1 (Nat.le_of_ble_eq_true rfl) dX6_pressers_14 (fun H locs hM hS => ?_)
    refine lv_if_eq (tgt := 26) hx hb dX6_pressers_17 (by decide) (fun c4 => ?_) (fun c4 => ?_)
    · replace h := it c4 h
      exact wX6_pressers_26 S hr hlk hK ih a1 a2 h _ _ hM hS _ (lv_sub hl [0, 1, 2] rfl)
    replace h := ie c4 h
    refine lv_iload_n hx hb dX6_pressers_20 rfl (lv_at hl 1 rfl) ?_
    refine lv_iconst (v := (1 : Int32)) hx hb dX6_pressers_21 (by decide) ?_
    refine lv_iload_n hx hb dX6_pressers_22 rfl (lv_at hl 2 rfl) ?_
    refine lv_ishl hx hb dX6_pressers_23 ?_
    refine lv_ior hx hb dX6_pressers_24 ?_
    refine lv_istore_n (lv' := [(1, .int (a1 ||| ((1 : Int32) <<< (a2 &&& 31)))), (0, .ref b), (2, .int a2)]) hx hb dX6_pressers_25 rfl hl (by decide) rfl (fun ls hl => ?_)
    exact wX6_pressers_26 S hr hlk hK ih (a1 ||| ((1 : Int32) <<< (a2 &&& 31))) a2 h _ _ hM hS _ (lv_sub hl [1, 0, 2] rfl)
set_option maxHeartbeats 4000000 in
theorem metX6_pressers {l : Launch} {G : mG} {b : Nat} {σ : MS} {x : Int32} (h : fX6_pressers σ = some x) : Met l yX6_pressers (ws_ yX6_pressers cX6_pressers 3 (some .int)) rmX6_pressers (mP G b σ [.ref b]) (mQi G b (σ, x)) 0 0 (mB b) := by
  refine m_entry (by decide) rfl (Nat.le_of_ble_eq_true rfl) ?_
  intro p e s m below meth c S hr hlk hK hM hS ls hl
  replace hl : lv_has ls 3 [(0, .ref b)] := hl
  obtain ⟨hx, hb, hml, hown, hts⟩ := id S
  unfold fX6_pressers at h
  refine lv_iconst (v := (0 : Int32)) hx hb dX6_pressers_0 (by decide) ?_
  refine lv_istore_n (lv' := [(1, .int (0 : Int32)), (0, .ref b)]) hx hb dX6_pressers_1 rfl hl (by decide) rfl (fun ls hl => ?_)
  refine lv_iconst (v := (0 : Int32)) hx hb dX6_pressers_2 (by decide) ?_
  refine lv_istore_n (lv' := [(2, .int (0 : Int32)), (1, .int (0 : Int32)), (0, .ref b)]) hx hb dX6_pressers_3 rfl hl (by decide) rfl (fun ls hl => ?_)
  exact wX6_pressers_4 S hr hlk hK FU (0 : Int32) (0 : Int32) h _ _ hM hS _ (lv_sub hl [2, 1, 0] rfl)
theorem kX6_pressers {p : Program} {l : Launch} {e : Env} {R : Room} {s : State} {m : MethodId} {args : Array Value} {below : List Frame} {meth : Method} {c : Code} {H H0 : Heap} {locs : List Loc} {Q : State → Prop} {cc : ByteArray} {nL pc : Nat} {ls : Array Slot} {rest : List Value} {G : mG} {b : Nat} {σ : MS} {x : Int32} (S : CallFix p m c cc nL s args lw_all RX6) (hK : mK G s) (hM : MW G b σ H) (hS : va_S (mB b) H0 H locs) (hf : fX6_pressers σ = some x) (hR : rmX6_pressers.frames + 1 ≤ R.frames ∧ 8 + (3 + 11) + rmX6_pressers.locals ≤ R.locals) (hsize : ls.size = nL) (hr : (rest.map fun v => v.category).sum ≤ 8) (hdg : decode cc pc = .ok (.invokevirtual 511, 3)) (kk : ∀ (H1 : Heap) (locs1 : List Loc), MW G b σ H1 → va_S (mB b) H0 H1 locs1 → W p l e R s m args below meth c H1 locs1 0 0 Q (F0 m (pc + 3) ls (.int x :: rest))) : W p l e R s m args below meth c H locs 0 0 Q (F0 m pc ls (.ref b :: rest)) :=
  m_cVi (As := []) S hK hM hS (metX6_pressers hf) (cwV 0 S.2.2.2.2 (lw_V q2254 q2256 qs109 q179 q2257) rfl rfl rfl (by decide +kernel) hR) ⟨Nat.zero_le _, Nat.zero_le _⟩ rfl hsize rfl hr hdg kk
/-! has(I)I -/
abbrev rmX6_has : Room := { frames := 3, cells := 0, slots := 0, locals := 43 }
def fX6_has (σ : MS) (a1 : Int32) : Option (Int32) :=
  if a1 = 0 then
    (aI σ 40 ((3 : Int32) + a1)).bind fun v1 =>
    some v1
  else
  if a1 = 1 then
    (aI σ 40 ((3 : Int32) + a1)).bind fun v3 =>
    some v3
  else
  if a1 = 2 then
    (aI σ 40 ((3 : Int32) + a1)).bind fun v5 =>
    some v5
  else
  if a1 = 3 then
    (aI σ 47 (4 : Int32)).bind fun v7 =>
    some v7
  else
  if a1 = 4 then
    (aI σ 54 (a1 - (4 : Int32))).bind fun v9 =>
    some v9
  else
  if a1 = 5 then
    (aI σ 54 (a1 - (4 : Int32))).bind fun v11 =>
    some v11
  else
  if a1 = 6 then
    (fX6_pressers σ).bind fun x13 =>
    (fX6_bits σ x13).bind fun x14 =>
    some x14
  else
  if a1 = 7 then
    (fX6_hoursAll σ).bind fun x16 =>
    some x16
  else
  if a1 = 8 then
    (aI σ 54 (96 : Int32)).bind fun v18 =>
    some v18
  else
  if a1 = 9 then
    some (σ.1 65)
  else
  if a1 = 10 then
    some (σ.1 68)
  else
  some (-1 : Int32)
set_option maxHeartbeats 4000000 in
theorem metX6_has {l : Launch} {G : mG} {b : Nat} {σ : MS} {a1 : Int32} {x : Int32} (h : fX6_has σ a1 = some x) : Met l yX6_has (ws_ yX6_has cX6_has 2 (some .int)) rmX6_has (mP G b σ [.ref b, .int a1]) (mQi G b (σ, x)) 0 0 (mB b) := by
  refine m_entry (by decide) rfl (Nat.le_of_ble_eq_true rfl) ?_
  intro p e s m below meth c S hr hlk hK hM hS ls hl
  replace hl : lv_has ls 2 [(0, .ref b), (1, .int a1)] := hl
  obtain ⟨hx, hb, hml, hown, hts⟩ := id S
  unfold fX6_has at h
  refine lv_iload_n hx hb dX6_has_0 rfl (lv_at hl 1 rfl) ?_
  by_cases c2 : a1 = 0
  · replace h := it c2 h
    refine lv_tableIn (off := 59) (tgt := 60) hx hb dX6_has_1 (by rw [c2]; decide) (by rw [c2]; decide) (by rw [c2]; rfl) (by decide) ?_
    refine lv_aload_n hx hb dX6_has_60 rfl (lv_at hl 0 rfl) ?_
    refine m_get S hK hM 40 (Nat.le_of_ble_eq_true rfl) q1772 (v := .ref (ma b 40)) rfl dX6_has_61 ?_
    refine lv_iconst (v := (3 : Int32)) hx hb dX6_has_64 (by decide) ?_
    refine lv_iload_n hx hb dX6_has_65 rfl (lv_at hl 1 rfl) ?_
    refine lv_iadd hx hb dX6_has_66 ?_
    replace h := ob h
    obtain ⟨v1, hv1, h⟩ := h
    refine m_iald S hK hM 40 rfl hv1 dX6_has_67 ?_
    exact m_iret' S hr hlk rfl hM hS h dX6_has_68
  replace h := ie c2 h
  by_cases c4 : a1 = 1
  · replace h := it c4 h
    refine lv_tableIn (off := 59) (tgt := 60) hx hb dX6_has_1 (by rw [c4]; decide) (by rw [c4]; decide) (by rw [c4]; rfl) (by decide) ?_
    refine lv_aload_n hx hb dX6_has_60 rfl (lv_at hl 0 rfl) ?_
    refine m_get S hK hM 40 (Nat.le_of_ble_eq_true rfl) q1772 (v := .ref (ma b 40)) rfl dX6_has_61 ?_
    refine lv_iconst (v := (3 : Int32)) hx hb dX6_has_64 (by decide) ?_
    refine lv_iload_n hx hb dX6_has_65 rfl (lv_at hl 1 rfl) ?_
    refine lv_iadd hx hb dX6_has_66 ?_
    replace h := ob h
    obtain ⟨v3, hv3, h⟩ := h
    refine m_iald S hK hM 40 rfl hv3 dX6_has_67 ?_
    exact m_iret' S hr hlk rfl hM hS h dX6_has_68
  replace h := ie c4 h
  by_cases c6 : a1 = 2
  · replace h := it c6 h
    refine lv_tableIn (off := 59) (tgt := 60) hx hb dX6_has_1 (by rw [c6]; decide) (by rw [c6]; decide) (by rw [c6]; rfl) (by decide) ?_
    refine lv_aload_n hx hb dX6_has_60 rfl (lv_at hl 0 rfl) ?_
    refine m_get S hK hM 40 (Nat.le_of_ble_eq_true rfl) q1772 (v := .ref (ma b 40)) rfl dX6_has_61 ?_
    refine lv_iconst (v := (3 : Int32)) hx hb dX6_has_64 (by decide) ?_
    refine lv_iload_n hx hb dX6_has_65 rfl (lv_at hl 1 rfl) ?_
    refine lv_iadd hx hb dX6_has_66 ?_
    replace h := ob h
    obtain ⟨v5, hv5, h⟩ := h
    refine m_iald S hK hM 40 rfl hv5 dX6_has_67 ?_
    exact m_iret' S hr hlk rfl hM hS h dX6_has_68
  replace h := ie c6 h
  by_cases c8 : a1 = 3
  · replace h := it c8 h
    refine lv_tableIn (off := 68) (tgt := 69) hx hb dX6_has_1 (by rw [c8]; decide) (by rw [c8]; decide) (by rw [c8]; rfl) (by decide) ?_
    refine lv_aload_n hx hb dX6_has_69 rfl (lv_at hl 0 rfl) ?_
    refine m_get S hK hM 47 (Nat.le_of_ble_eq_true rfl) q1779 (v := .ref (ma b 47)) rfl dX6_has_70 ?_
    refine lv_iconst (v := (4 : Int32)) hx hb dX6_has_73 (by decide) ?_
    replace h := ob h
    obtain ⟨v7, hv7, h⟩ := h
    refine m_iald S hK hM 47 rfl hv7 dX6_has_74 ?_
    exact m_iret' S hr hlk rfl hM hS h dX6_has_75
  replace h := ie c8 h
  by_cases c10 : a1 = 4
  · replace h := it c10 h
    refine lv_tableIn (off := 75) (tgt := 76) hx hb dX6_has_1 (by rw [c10]; decide) (by rw [c10]; decide) (by rw [c10]; rfl) (by decide) ?_
    refine lv_aload_n hx hb dX6_has_76 rfl (lv_at hl 0 rfl) ?_
    refine m_get S hK hM 54 (Nat.le_of_ble_eq_true rfl) q1786 (v := .ref (ma b 54)) rfl dX6_has_77 ?_
    refine lv_iload_n hx hb dX6_has_80 rfl (lv_at hl 1 rfl) ?_
    refine lv_iconst (v := (4 : Int32)) hx hb dX6_has_81 (by decide) ?_
    refine lv_isub hx hb dX6_has_82 ?_
    replace h := ob h
    obtain ⟨v9, hv9, h⟩ := h
    refine m_iald S hK hM 54 rfl hv9 dX6_has_83 ?_
    exact m_iret' S hr hlk rfl hM hS h dX6_has_84
  replace h := ie c10 h
  by_cases c12 : a1 = 5
  · replace h := it c12 h
    refine lv_tableIn (off := 75) (tgt := 76) hx hb dX6_has_1 (by rw [c12]; decide) (by rw [c12]; decide) (by rw [c12]; rfl) (by decide) ?_
    refine lv_aload_n hx hb dX6_has_76 rfl (lv_at hl 0 rfl) ?_
    refine m_get S hK hM 54 (Nat.le_of_ble_eq_true rfl) q1786 (v := .ref (ma b 54)) rfl dX6_has_77 ?_
    refine lv_iload_n hx hb dX6_has_80 rfl (lv_at hl 1 rfl) ?_
    refine lv_iconst (v := (4 : Int32)) hx hb dX6_has_81 (by decide) ?_
    refine lv_isub hx hb dX6_has_82 ?_
    replace h := ob h
    obtain ⟨v11, hv11, h⟩ := h
    refine m_iald S hK hM 54 rfl hv11 dX6_has_83 ?_
    exact m_iret' S hr hlk rfl hM hS h dX6_has_84
  replace h := ie c12 h
  by_cases c15 : a1 = 6
  · replace h := it c15 h
    refine lv_tableIn (off := 84) (tgt := 85) hx hb dX6_has_1 (by rw [c15]; decide) (by rw [c15]; decide) (by rw [c15]; rfl) (by decide) ?_
    refine lv_aload_n hx hb dX6_has_85 rfl (lv_at hl 0 rfl) ?_
    replace h := ob h
    obtain ⟨x13, hx13, h⟩ := h
    refine kX6_pressers S hK hM hS hx13 ⟨Nat.le_of_ble_eq_true rfl, Nat.le_of_ble_eq_true rfl⟩ hl.1 (Nat.le_of_ble_eq_true rfl) dX6_has_86 (fun H locs hM hS => ?_)
    replace h := ob h
    obtain ⟨x14, hx14, h⟩ := h
    refine kX6_bits S hK hM hS hx14 ⟨Nat.le_of_ble_eq_true rfl, Nat.le_of_ble_eq_true rfl⟩ hl.1 (Nat.le_of_ble_eq_true rfl) dX6_has_89 (fun H locs hM hS => ?_)
    exact m_iret' S hr hlk rfl hM hS h dX6_has_92
  replace h := ie c15 h
  by_cases c17 : a1 = 7
  · replace h := it c17 h
    refine lv_tableIn (off := 92) (tgt := 93) hx hb dX6_has_1 (by rw [c17]; decide) (by rw [c17]; decide) (by rw [c17]; rfl) (by decide) ?_
    refine lv_aload_n hx hb dX6_has_93 rfl (lv_at hl 0 rfl) ?_
    replace h := ob h
    obtain ⟨x16, hx16, h⟩ := h
    refine kX6_hoursAll S hK hM hS hx16 ⟨Nat.le_of_ble_eq_true rfl, Nat.le_of_ble_eq_true rfl⟩ hl.1 (Nat.le_of_ble_eq_true rfl) dX6_has_94 (fun H locs hM hS => ?_)
    exact m_iret' S hr hlk rfl hM hS h dX6_has_97
  replace h := ie c17 h
  by_cases c19 : a1 = 8
  · replace h := it c19 h
    refine lv_tableIn (off := 97) (tgt := 98) hx hb dX6_has_1 (by rw [c19]; decide) (by rw [c19]; decide) (by rw [c19]; rfl) (by decide) ?_
    refine lv_aload_n hx hb dX6_has_98 rfl (lv_at hl 0 rfl) ?_
    refine m_get S hK hM 54 (Nat.le_of_ble_eq_true rfl) q1786 (v := .ref (ma b 54)) rfl dX6_has_99 ?_
    refine lv_bipush (v := (96 : Int32)) hx hb dX6_has_102 (by decide) ?_
    replace h := ob h
    obtain ⟨v18, hv18, h⟩ := h
    refine m_iald S hK hM 54 rfl hv18 dX6_has_104 ?_
    exact m_iret' S hr hlk rfl hM hS h dX6_has_105
  replace h := ie c19 h
  by_cases c20 : a1 = 9
  · replace h := it c20 h
    refine lv_tableIn (off := 105) (tgt := 106) hx hb dX6_has_1 (by rw [c20]; decide) (by rw [c20]; decide) (by rw [c20]; rfl) (by decide) ?_
    refine lv_aload_n hx hb dX6_has_106 rfl (lv_at hl 0 rfl) ?_
    refine m_get S hK hM 65 (Nat.le_of_ble_eq_true rfl) q1797 (v := .int (σ.1 65)) rfl dX6_has_107 ?_
    exact m_iret' S hr hlk rfl hM hS h dX6_has_110
  replace h := ie c20 h
  by_cases c21 : a1 = 10
  · replace h := it c21 h
    refine lv_tableIn (off := 110) (tgt := 111) hx hb dX6_has_1 (by rw [c21]; decide) (by rw [c21]; decide) (by rw [c21]; rfl) (by decide) ?_
    refine lv_aload_n hx hb dX6_has_111 rfl (lv_at hl 0 rfl) ?_
    refine m_get S hK hM 68 (Nat.le_of_ble_eq_true rfl) q1800 (v := .int (σ.1 68)) rfl dX6_has_112 ?_
    exact m_iret' S hr hlk rfl hM hS h dX6_has_115
  replace h := ie c21 h
  refine lv_tableOut (tgt := 116) hx hb dX6_has_1 (sw_out0_11 c2 c4 c6 c8 c10 c12 c15 c17 c19 c20 c21) (by decide) ?_
  refine lv_iconst (v := (-1 : Int32)) hx hb dX6_has_116 (by decide) ?_
  exact m_iret' S hr hlk rfl hM hS h dX6_has_117
/-! letter(III)I -/
abbrev rmX6_letter : Room := { frames := 2, cells := 0, slots := 0, locals := 25 }
def fX6_letter_104 (σ : MS) : Nat → Int32 → Int64 → Int32 → Option (Int32)
  | 0, _, _, _ => none
  | n + 1, a3, a4, a7 =>
    if a7 ≤ a3 then
      some ((a4 - a4 / (27 : Int64) * (27 : Int64)).toInt32)
    else
    fX6_letter_104 σ n a3 (a4 / (27 : Int64)) (a7 + (-1 : Int32))
def fX6_letter_69 (σ : MS) : Nat → Int32 → Int64 → Int32 → Int64 → Option (Int32)
  | 0, _, _, _, _ => none
  | n + 1, a3, a4, a6, a7 =>
    if a7 ≤ (0 : Int64) then
      if a3 < a6 then
        fX6_letter_104 σ FU a3 a4 (a6 - (1 : Int32))
      else
      some (0 : Int32)
    else
    fX6_letter_69 σ n a3 a4 (a6 + (1 : Int32)) (a7 / (27 : Int64))
def fX6_letter (σ : MS) (a1 : Int32) (a2 : Int32) (a3 : Int32) : Option (Int32) :=
  (fX6_isIn σ a1.toInt64 (0 : Int64) (2 : Int64)).bind fun x1 =>
  if x1 = 0 then
    some (-1 : Int32)
  else
  (aI σ 40 ((3 : Int32) + a1)).bind fun v3 =>
  (fX6_isIn σ a2.toInt64 (0 : Int64) ((v3 - (1 : Int32)).toInt64)).bind fun x4 =>
  if x4 = 0 then
    some (-1 : Int32)
  else
  (fX6_isIn σ a3.toInt64 (0 : Int64) (5 : Int64)).bind fun x6 =>
  if x6 = 0 then
    some (-1 : Int32)
  else
  (aL σ 41 (((24 : Int32) + ((8 : Int32) * a1)) + a2)).bind fun v8 =>
  fX6_letter_69 σ FU a3 v8 (0 : Int32) v8
set_option maxHeartbeats 4000000 in
theorem wX6_letter_104 {p : Program} {l : Launch} {e : Env} {s : State} {m : MethodId} {args : Array Value} {below : List Frame} {meth : Method} {c : Code} {G : mG} {b : Nat} {σ : MS} (S : CallFix p m c cX6_letter 9 s args lw_all RX6) (hr : meth.sig.returnType = some .int) (hlk : meth.locks = false) (hK : mK G s) {x : Int32} : ∀ (n : Nat) (a3 : Int32) (a4 : Int64) (a7 : Int32), fX6_letter_104 σ n a3 a4 a7 = some x → mGo p l e rmX6_letter s m args below meth c G b (MQ below (mQi G b (σ, x)) args s 0 0 (mB b)) 9 104 [(0, .ref b), (3, .int a3), (4, .long a4), (7, .int a7)] [] σ := by
  obtain ⟨hx, hb, hml, hown, hts⟩ := id S
  intro n
  induction n with
  | zero => intro a3 a4 a7 h; cases h
  | succ n ih =>
    intro a3 a4 a7 h H locs hM hS ls hl
    rw [fX6_letter_104] at h
    refine lv_iload hx hb dX6_letter_104 (lv_at hl 3 rfl) ?_
    refine lv_iload_n hx hb dX6_letter_106 rfl (lv_at hl 1 rfl) ?_
    refine lv_icmp_le (tgt := 124) hx hb dX6_letter_107 (by decide) (fun c1 => ?_) (fun c1 => ?_)
    · replace h := it c1 h
      refine lv_lload hx hb dX6_letter_124 (lv_at hl 2 rfl) ?_
      refine lv_ldc2 hx hb hown (hts _ q2097) dX6_letter_126 ?_
      refine lv_lrem hx hb dX6_letter_129 (by decide) ?_
      refine lv_l2i (v := (a4 - a4 / (27 : Int64) * (27 : Int64)).toInt32) hx hb dX6_letter_130 rfl ?_
      exact m_iret' S hr hlk rfl hM hS h dX6_letter_131
    replace h := ie c1 h
    refine lv_lload hx hb dX6_letter_110 (lv_at hl 2 rfl) ?_
    refine lv_ldc2 hx hb hown (hts _ q2097) dX6_letter_112 ?_
    refine lv_ldiv hx hb dX6_letter_115 (by decide) ?_
    refine lv_lstore (lv' := [(4, .long (a4 / (27 : Int64))), (0, .ref b), (3, .int a3), (7, .int a7)]) hx hb dX6_letter_116 hl (by decide) rfl (fun ls hl => ?_)
    refine lv_iinc (v := (a7 + (-1 : Int32))) (lv' := [(7, .int (a7 + (-1 : Int32))), (4, .long (a4 / (27 : Int64))), (0, .ref b), (3, .int a3)]) hx hb dX6_letter_118 hl (k := 3) rfl rfl (by decide) rfl (fun ls hl => ?_)
    refine lv_goto (tgt := 104) hx hb dX6_letter_121 (by decide) ?_
    exact ih a3 (a4 / (27 : Int64)) (a7 + (-1 : Int32)) h _ _ hM hS _ (lv_sub hl [2, 3, 1, 0] rfl)
set_option maxHeartbeats 4000000 in
theorem wX6_letter_69 {p : Program} {l : Launch} {e : Env} {s : State} {m : MethodId} {args : Array Value} {below : List Frame} {meth : Method} {c : Code} {G : mG} {b : Nat} {σ : MS} (S : CallFix p m c cX6_letter 9 s args lw_all RX6) (hr : meth.sig.returnType = some .int) (hlk : meth.locks = false) (hK : mK G s) {x : Int32} : ∀ (n : Nat) (a3 : Int32) (a4 : Int64) (a6 : Int32) (a7 : Int64), fX6_letter_69 σ n a3 a4 a6 a7 = some x → mGo p l e rmX6_letter s m args below meth c G b (MQ below (mQi G b (σ, x)) args s 0 0 (mB b)) 9 69 [(0, .ref b), (3, .int a3), (4, .long a4), (6, .int a6), (7, .long a7)] [] σ := by
  obtain ⟨hx, hb, hml, hown, hts⟩ := id S
  intro n
  induction n with
  | zero => intro a3 a4 a6 a7 h; cases h
  | succ n ih =>
    intro a3 a4 a6 a7 h H locs hM hS ls hl
    rw [fX6_letter_69] at h
    refine lv_lload hx hb dX6_letter_69 (lv_at hl 4 rfl) ?_
    refine lv_lconst (v := (0 : Int64)) hx hb dX6_letter_71 (by decide) ?_
    refine m_lcmp S dX6_letter_72 ?_
    refine lv_if_le (tgt := 90) hx hb dX6_letter_73 (by decide) (fun c1 => ?_) (fun c1 => ?_)
    rotate_left 1
    · replace h := ie (fun q => c1 ((lg_cmp_le _ _).mpr q)) h
      refine lv_iinc (v := (a6 + (1 : Int32))) (lv' := [(6, .int (a6 + (1 : Int32))), (0, .ref b), (3, .int a3), (4, .long a4), (7, .long a7)]) hx hb dX6_letter_76 hl (k := 3) rfl rfl (by decide) rfl (fun ls hl => ?_)
      refine lv_lload hx hb dX6_letter_79 (lv_at hl 4 rfl) ?_
      refine lv_ldc2 hx hb hown (hts _ q2097) dX6_letter_81 ?_
      refine lv_ldiv hx hb dX6_letter_84 (by decide) ?_
      refine lv_lstore (lv' := [(7, .long (a7 / (27 : Int64))), (6, .int (a6 + (1 : Int32))), (0, .ref b), (3, .int a3), (4, .long a4)]) hx hb dX6_letter_85 hl (by decide) rfl (fun ls hl => ?_)
      refine lv_goto (tgt := 69) hx hb dX6_letter_87 (by decide) ?_
      exact ih a3 a4 (a6 + (1 : Int32)) (a7 / (27 : Int64)) h _ _ hM hS _ (lv_sub hl [2, 3, 4, 1, 0] rfl)
    replace h := it ((lg_cmp_le _ _).mp c1) h
    refine lv_iload_n hx hb dX6_letter_90 rfl (lv_at hl 1 rfl) ?_
    refine lv_iload hx hb dX6_letter_91 (lv_at hl 3 rfl) ?_
    refine lv_icmp_lt (tgt := 98) hx hb dX6_letter_93 (by decide) (fun c2 => ?_) (fun c2 => ?_)
    rotate_left 1
    · replace h := ie c2 h
      refine lv_iconst (v := (0 : Int32)) hx hb dX6_letter_96 (by decide) ?_
      exact m_iret' S hr hlk rfl hM hS h dX6_letter_97
    replace h := it c2 h
    refine lv_iload hx hb dX6_letter_98 (lv_at hl 3 rfl) ?_
    refine lv_iconst (v := (1 : Int32)) hx hb dX6_letter_100 (by decide) ?_
    refine lv_isub hx hb dX6_letter_101 ?_
    refine lv_istore (lv' := [(7, .int (a6 - (1 : Int32))), (0, .ref b), (3, .int a3), (4, .long a4), (6, .int a6)]) hx hb dX6_letter_102 hl (by decide) rfl (fun ls hl => ?_)
    exact wX6_letter_104 S hr hlk hK FU a3 a4 (a6 - (1 : Int32)) h _ _ hM hS _ (lv_sub hl [1, 2, 3, 0] rfl)
set_option maxHeartbeats 4000000 in
theorem metX6_letter {l : Launch} {G : mG} {b : Nat} {σ : MS} {a1 : Int32} {a2 : Int32} {a3 : Int32} {x : Int32} (h : fX6_letter σ a1 a2 a3 = some x) : Met l yX6_letter (ws_ yX6_letter cX6_letter 9 (some .int)) rmX6_letter (mP G b σ [.ref b, .int a1, .int a2, .int a3]) (mQi G b (σ, x)) 0 0 (mB b) := by
  refine m_entry (by decide) rfl (Nat.le_of_ble_eq_true rfl) ?_
  intro p e s m below meth c S hr hlk hK hM hS ls hl
  replace hl : lv_has ls 9 [(0, .ref b), (1, .int a1), (2, .int a2), (3, .int a3)] := hl
  obtain ⟨hx, hb, hml, hown, hts⟩ := id S
  unfold fX6_letter at h
  refine lv_iload_n hx hb dX6_letter_0 rfl (lv_at hl 1 rfl) ?_
  refine lv_i2l (v := a1.toInt64) hx hb dX6_letter_1 rfl ?_
  refine lv_lconst (v := (0 : Int64)) hx hb dX6_letter_2 (by decide) ?_
  refine lv_ldc2 hx hb hown (hts _ q2277) dX6_letter_3 ?_
  replace h := ob h
  obtain ⟨x1, hx1, h⟩ := h
  refine kX6_isIn S hK hM hS hx1 ⟨Nat.le_of_ble_eq_true rfl, Nat.le_of_ble_eq_true rfl⟩ hl.1 (Nat.le_of_ble_eq_true rfl) dX6_letter_6 (fun H locs hM hS => ?_)
  refine lv_if_eq (tgt := 44) hx hb dX6_letter_9 (by decide) (fun c2 => ?_) (fun c2 => ?_)
  · replace h := it c2 h
    refine lv_iconst (v := (-1 : Int32)) hx hb dX6_letter_44 (by decide) ?_
    exact m_iret' S hr hlk rfl hM hS h dX6_letter_45
  replace h := ie c2 h
  refine lv_iload_n hx hb dX6_letter_12 rfl (lv_at hl 2 rfl) ?_
  refine lv_i2l (v := a2.toInt64) hx hb dX6_letter_13 rfl ?_
  refine lv_lconst (v := (0 : Int64)) hx hb dX6_letter_14 (by decide) ?_
  refine lv_aload_n hx hb dX6_letter_15 rfl (lv_at hl 0 rfl) ?_
  refine m_get S hK hM 40 (Nat.le_of_ble_eq_true rfl) q1772 (v := .ref (ma b 40)) rfl dX6_letter_16 ?_
  refine lv_iconst (v := (3 : Int32)) hx hb dX6_letter_19 (by decide) ?_
  refine lv_iload_n hx hb dX6_letter_20 rfl (lv_at hl 1 rfl) ?_
  refine lv_iadd hx hb dX6_letter_21 ?_
  replace h := ob h
  obtain ⟨v3, hv3, h⟩ := h
  refine m_iald S hK hM 40 rfl hv3 dX6_letter_22 ?_
  refine lv_iconst (v := (1 : Int32)) hx hb dX6_letter_23 (by decide) ?_
  refine lv_isub hx hb dX6_letter_24 ?_
  refine lv_i2l (v := (v3 - (1 : Int32)).toInt64) hx hb dX6_letter_25 rfl ?_
  replace h := ob h
  obtain ⟨x4, hx4, h⟩ := h
  refine kX6_isIn S hK hM hS hx4 ⟨Nat.le_of_ble_eq_true rfl, Nat.le_of_ble_eq_true rfl⟩ hl.1 (Nat.le_of_ble_eq_true rfl) dX6_letter_26 (fun H locs hM hS => ?_)
  refine lv_if_eq (tgt := 44) hx hb dX6_letter_29 (by decide) (fun c5 => ?_) (fun c5 => ?_)
  · replace h := it c5 h
    refine lv_iconst (v := (-1 : Int32)) hx hb dX6_letter_44 (by decide) ?_
    exact m_iret' S hr hlk rfl hM hS h dX6_letter_45
  replace h := ie c5 h
  refine lv_iload_n hx hb dX6_letter_32 rfl (lv_at hl 3 rfl) ?_
  refine lv_i2l (v := a3.toInt64) hx hb dX6_letter_33 rfl ?_
  refine lv_lconst (v := (0 : Int64)) hx hb dX6_letter_34 (by decide) ?_
  refine lv_ldc2 hx hb hown (hts _ q2182) dX6_letter_35 ?_
  replace h := ob h
  obtain ⟨x6, hx6, h⟩ := h
  refine kX6_isIn S hK hM hS hx6 ⟨Nat.le_of_ble_eq_true rfl, Nat.le_of_ble_eq_true rfl⟩ hl.1 (Nat.le_of_ble_eq_true rfl) dX6_letter_38 (fun H locs hM hS => ?_)
  refine lv_if_ne (tgt := 46) hx hb dX6_letter_41 (by decide) (fun c7 => ?_) (fun c7 => ?_)
  rotate_left 1
  · replace h := it c7 h
    refine lv_iconst (v := (-1 : Int32)) hx hb dX6_letter_44 (by decide) ?_
    exact m_iret' S hr hlk rfl hM hS h dX6_letter_45
  replace h := ie c7 h
  refine lv_aload_n hx hb dX6_letter_46 rfl (lv_at hl 0 rfl) ?_
  refine m_get S hK hM 41 (Nat.le_of_ble_eq_true rfl) q1773 (v := .ref (ma b 41)) rfl dX6_letter_47 ?_
  refine lv_bipush (v := (24 : Int32)) hx hb dX6_letter_50 (by decide) ?_
  refine lv_bipush (v := (8 : Int32)) hx hb dX6_letter_52 (by decide) ?_
  refine lv_iload_n hx hb dX6_letter_54 rfl (lv_at hl 1 rfl) ?_
  refine lv_imul hx hb dX6_letter_55 ?_
  refine lv_iadd hx hb dX6_letter_56 ?_
  refine lv_iload_n hx hb dX6_letter_57 rfl (lv_at hl 2 rfl) ?_
  refine lv_iadd hx hb dX6_letter_58 ?_
  replace h := ob h
  obtain ⟨v8, hv8, h⟩ := h
  refine m_lald S hK hM 41 rfl hv8 dX6_letter_59 ?_
  refine lv_lstore (lv' := [(4, .long v8), (0, .ref b), (1, .int a1), (2, .int a2), (3, .int a3)]) hx hb dX6_letter_60 hl (by decide) rfl (fun ls hl => ?_)
  refine lv_iconst (v := (0 : Int32)) hx hb dX6_letter_62 (by decide) ?_
  refine lv_istore (lv' := [(6, .int (0 : Int32)), (4, .long v8), (0, .ref b), (1, .int a1), (2, .int a2), (3, .int a3)]) hx hb dX6_letter_63 hl (by decide) rfl (fun ls hl => ?_)
  refine lv_lload hx hb dX6_letter_65 (lv_at hl 1 rfl) ?_
  refine lv_lstore (lv' := [(7, .long v8), (6, .int (0 : Int32)), (4, .long v8), (0, .ref b), (1, .int a1), (2, .int a2), (3, .int a3)]) hx hb dX6_letter_67 hl (by decide) rfl (fun ls hl => ?_)
  exact wX6_letter_69 S hr hlk hK FU a3 v8 (0 : Int32) v8 h _ _ hM hS _ (lv_sub hl [3, 6, 2, 1, 0] rfl)
/-! filmMany()I -/
abbrev rmX6_filmMany : Room := { frames := 1, cells := 0, slots := 0, locals := 0 }
def fX6_filmMany (σ : MS) : Option (Int32) :=
  (aI σ 40 (4 : Int32)).bind fun v1 =>
  some v1
set_option maxHeartbeats 4000000 in
theorem metX6_filmMany {l : Launch} {G : mG} {b : Nat} {σ : MS} {x : Int32} (h : fX6_filmMany σ = some x) : Met l yX6_filmMany (ws_ yX6_filmMany cX6_filmMany 1 (some .int)) rmX6_filmMany (mP G b σ [.ref b]) (mQi G b (σ, x)) 0 0 (mB b) := by
  refine m_entry (by decide) rfl (Nat.le_of_ble_eq_true rfl) ?_
  intro p e s m below meth c S hr hlk hK hM hS ls hl
  replace hl : lv_has ls 1 [(0, .ref b)] := hl
  obtain ⟨hx, hb, hml, hown, hts⟩ := id S
  unfold fX6_filmMany at h
  refine lv_aload_n hx hb dX6_filmMany_0 rfl (lv_at hl 0 rfl) ?_
  refine m_get S hK hM 40 (Nat.le_of_ble_eq_true rfl) q1772 (v := .ref (ma b 40)) rfl dX6_filmMany_1 ?_
  refine lv_iconst (v := (4 : Int32)) hx hb dX6_filmMany_4 (by decide) ?_
  replace h := ob h
  obtain ⟨v1, hv1, h⟩ := h
  refine m_iald S hK hM 40 rfl hv1 dX6_filmMany_5 ?_
  exact m_iret' S hr hlk rfl hM hS h dX6_filmMany_6
theorem kX6_filmMany {p : Program} {l : Launch} {e : Env} {R : Room} {s : State} {m : MethodId} {args : Array Value} {below : List Frame} {meth : Method} {c : Code} {H H0 : Heap} {locs : List Loc} {Q : State → Prop} {cc : ByteArray} {nL pc : Nat} {ls : Array Slot} {rest : List Value} {G : mG} {b : Nat} {σ : MS} {x : Int32} (S : CallFix p m c cc nL s args lw_all RX6) (hK : mK G s) (hM : MW G b σ H) (hS : va_S (mB b) H0 H locs) (hf : fX6_filmMany σ = some x) (hR : rmX6_filmMany.frames + 1 ≤ R.frames ∧ 8 + (1 + 11) + rmX6_filmMany.locals ≤ R.locals) (hsize : ls.size = nL) (hr : (rest.map fun v => v.category).sum ≤ 8) (hdg : decode cc pc = .ok (.invokevirtual 405, 3)) (kk : ∀ (H1 : Heap) (locs1 : List Loc), MW G b σ H1 → va_S (mB b) H0 H1 locs1 → W p l e R s m args below meth c H1 locs1 0 0 Q (F0 m (pc + 3) ls (.int x :: rest))) : W p l e R s m args below meth c H locs 0 0 Q (F0 m pc ls (.ref b :: rest)) :=
  m_cVi (As := []) S hK hM hS (metX6_filmMany hf) (cwV 0 S.2.2.2.2 (lw_V q2286 q2288 qs114 q179 q2289) rfl rfl rfl (by decide +kernel) hR) ⟨Nat.zero_le _, Nat.zero_le _⟩ rfl hsize rfl hr hdg kk
/-! isFilm(I)Z -/
abbrev rmX6_isFilm : Room := { frames := 2, cells := 0, slots := 0, locals := 25 }
def fX6_isFilm (σ : MS) (a1 : Int32) : Option (Int32) :=
  (fX6_filmMany σ).bind fun x1 =>
  (fX6_isIn σ a1.toInt64 (0 : Int64) ((x1 - (1 : Int32)).toInt64)).bind fun x2 =>
  (zr x2).bind fun z3 =>
  some x2
set_option maxHeartbeats 4000000 in
theorem metX6_isFilm {l : Launch} {G : mG} {b : Nat} {σ : MS} {a1 : Int32} {x : Int32} (h : fX6_isFilm σ a1 = some x) : Met l yX6_isFilm (ws_ yX6_isFilm cX6_isFilm 2 (some .boolean)) rmX6_isFilm (mP G b σ [.ref b, .int a1]) (mQi G b (σ, x)) 0 0 (mB b) := by
  refine m_entry (by decide) rfl (Nat.le_of_ble_eq_true rfl) ?_
  intro p e s m below meth c S hr hlk hK hM hS ls hl
  replace hl : lv_has ls 2 [(0, .ref b), (1, .int a1)] := hl
  obtain ⟨hx, hb, hml, hown, hts⟩ := id S
  unfold fX6_isFilm at h
  refine lv_iload_n hx hb dX6_isFilm_0 rfl (lv_at hl 1 rfl) ?_
  refine lv_i2l (v := a1.toInt64) hx hb dX6_isFilm_1 rfl ?_
  refine lv_lconst (v := (0 : Int64)) hx hb dX6_isFilm_2 (by decide) ?_
  refine lv_aload_n hx hb dX6_isFilm_3 rfl (lv_at hl 0 rfl) ?_
  replace h := ob h
  obtain ⟨x1, hx1, h⟩ := h
  refine kX6_filmMany S hK hM hS hx1 ⟨Nat.le_of_ble_eq_true rfl, Nat.le_of_ble_eq_true rfl⟩ hl.1 (Nat.le_of_ble_eq_true rfl) dX6_isFilm_4 (fun H locs hM hS => ?_)
  refine lv_iconst (v := (1 : Int32)) hx hb dX6_isFilm_7 (by decide) ?_
  refine lv_isub hx hb dX6_isFilm_8 ?_
  refine lv_i2l (v := (x1 - (1 : Int32)).toInt64) hx hb dX6_isFilm_9 rfl ?_
  replace h := ob h
  obtain ⟨x2, hx2, h⟩ := h
  refine kX6_isIn S hK hM hS hx2 ⟨Nat.le_of_ble_eq_true rfl, Nat.le_of_ble_eq_true rfl⟩ hl.1 (Nat.le_of_ble_eq_true rfl) dX6_isFilm_10 (fun H locs hM hS => ?_)
  replace h := ob h
  obtain ⟨z3, hz3, h⟩ := h
  obtain ⟨hz3a, -, -⟩ := zr_e hz3
  exact m_iret' S hr hlk hz3a hM hS h dX6_isFilm_13
theorem kX6_isFilm {p : Program} {l : Launch} {e : Env} {R : Room} {s : State} {m : MethodId} {args : Array Value} {below : List Frame} {meth : Method} {c : Code} {H H0 : Heap} {locs : List Loc} {Q : State → Prop} {cc : ByteArray} {nL pc : Nat} {ls : Array Slot} {rest : List Value} {G : mG} {b : Nat} {σ : MS} {a1 : Int32} {x : Int32} (S : CallFix p m c cc nL s args lw_all RX6) (hK : mK G s) (hM : MW G b σ H) (hS : va_S (mB b) H0 H locs) (hf : fX6_isFilm σ a1 = some x) (hR : rmX6_isFilm.frames + 1 ≤ R.frames ∧ 8 + (2 + 11) + rmX6_isFilm.locals ≤ R.locals) (hsize : ls.size = nL) (hr : (rest.map fun v => v.category).sum ≤ 8) (hdg : decode cc pc = .ok (.invokevirtual 522, 3)) (kk : ∀ (H1 : Heap) (locs1 : List Loc), MW G b σ H1 → va_S (mB b) H0 H1 locs1 → W p l e R s m args below meth c H1 locs1 0 0 Q (F0 m (pc + 3) ls (.int x :: rest))) : W p l e R s m args below meth c H locs 0 0 Q (F0 m pc ls (.int a1 :: .ref b :: rest)) :=
  m_cVi (As := [.int a1]) S hK hM hS (metX6_isFilm hf) (cwV 1 S.2.2.2.2 (lw_V q2282 q2284 qs113 q179 q2285) rfl rfl rfl (by decide +kernel) hR) ⟨Nat.zero_le _, Nat.zero_le _⟩ rfl hsize rfl hr hdg kk
/-! kindMany()I -/
abbrev rmX6_kindMany : Room := { frames := 1, cells := 0, slots := 0, locals := 0 }
def fX6_kindMany (σ : MS) : Option (Int32) :=
  (aI σ 40 (3 : Int32)).bind fun v1 =>
  some v1
set_option maxHeartbeats 4000000 in
theorem metX6_kindMany {l : Launch} {G : mG} {b : Nat} {σ : MS} {x : Int32} (h : fX6_kindMany σ = some x) : Met l yX6_kindMany (ws_ yX6_kindMany cX6_kindMany 1 (some .int)) rmX6_kindMany (mP G b σ [.ref b]) (mQi G b (σ, x)) 0 0 (mB b) := by
  refine m_entry (by decide) rfl (Nat.le_of_ble_eq_true rfl) ?_
  intro p e s m below meth c S hr hlk hK hM hS ls hl
  replace hl : lv_has ls 1 [(0, .ref b)] := hl
  obtain ⟨hx, hb, hml, hown, hts⟩ := id S
  unfold fX6_kindMany at h
  refine lv_aload_n hx hb dX6_kindMany_0 rfl (lv_at hl 0 rfl) ?_
  refine m_get S hK hM 40 (Nat.le_of_ble_eq_true rfl) q1772 (v := .ref (ma b 40)) rfl dX6_kindMany_1 ?_
  refine lv_iconst (v := (3 : Int32)) hx hb dX6_kindMany_4 (by decide) ?_
  replace h := ob h
  obtain ⟨v1, hv1, h⟩ := h
  refine m_iald S hK hM 40 rfl hv1 dX6_kindMany_5 ?_
  exact m_iret' S hr hlk rfl hM hS h dX6_kindMany_6
theorem kX6_kindMany {p : Program} {l : Launch} {e : Env} {R : Room} {s : State} {m : MethodId} {args : Array Value} {below : List Frame} {meth : Method} {c : Code} {H H0 : Heap} {locs : List Loc} {Q : State → Prop} {cc : ByteArray} {nL pc : Nat} {ls : Array Slot} {rest : List Value} {G : mG} {b : Nat} {σ : MS} {x : Int32} (S : CallFix p m c cc nL s args lw_all RX6) (hK : mK G s) (hM : MW G b σ H) (hS : va_S (mB b) H0 H locs) (hf : fX6_kindMany σ = some x) (hR : rmX6_kindMany.frames + 1 ≤ R.frames ∧ 8 + (1 + 11) + rmX6_kindMany.locals ≤ R.locals) (hsize : ls.size = nL) (hr : (rest.map fun v => v.category).sum ≤ 8) (hdg : decode cc pc = .ok (.invokevirtual 402, 3)) (kk : ∀ (H1 : Heap) (locs1 : List Loc), MW G b σ H1 → va_S (mB b) H0 H1 locs1 → W p l e R s m args below meth c H1 locs1 0 0 Q (F0 m (pc + 3) ls (.int x :: rest))) : W p l e R s m args below meth c H locs 0 0 Q (F0 m pc ls (.ref b :: rest)) :=
  m_cVi (As := []) S hK hM hS (metX6_kindMany hf) (cwV 0 S.2.2.2.2 (lw_V q2294 q2296 qs116 q179 q2297) rfl rfl rfl (by decide +kernel) hR) ⟨Nat.zero_le _, Nat.zero_le _⟩ rfl hsize rfl hr hdg kk
/-! isKind(I)Z -/
abbrev rmX6_isKind : Room := { frames := 2, cells := 0, slots := 0, locals := 25 }
def fX6_isKind (σ : MS) (a1 : Int32) : Option (Int32) :=
  (fX6_kindMany σ).bind fun x1 =>
  (fX6_isIn σ a1.toInt64 (0 : Int64) ((x1 - (1 : Int32)).toInt64)).bind fun x2 =>
  (zr x2).bind fun z3 =>
  some x2
set_option maxHeartbeats 4000000 in
theorem metX6_isKind {l : Launch} {G : mG} {b : Nat} {σ : MS} {a1 : Int32} {x : Int32} (h : fX6_isKind σ a1 = some x) : Met l yX6_isKind (ws_ yX6_isKind cX6_isKind 2 (some .boolean)) rmX6_isKind (mP G b σ [.ref b, .int a1]) (mQi G b (σ, x)) 0 0 (mB b) := by
  refine m_entry (by decide) rfl (Nat.le_of_ble_eq_true rfl) ?_
  intro p e s m below meth c S hr hlk hK hM hS ls hl
  replace hl : lv_has ls 2 [(0, .ref b), (1, .int a1)] := hl
  obtain ⟨hx, hb, hml, hown, hts⟩ := id S
  unfold fX6_isKind at h
  refine lv_iload_n hx hb dX6_isKind_0 rfl (lv_at hl 1 rfl) ?_
  refine lv_i2l (v := a1.toInt64) hx hb dX6_isKind_1 rfl ?_
  refine lv_lconst (v := (0 : Int64)) hx hb dX6_isKind_2 (by decide) ?_
  refine lv_aload_n hx hb dX6_isKind_3 rfl (lv_at hl 0 rfl) ?_
  replace h := ob h
  obtain ⟨x1, hx1, h⟩ := h
  refine kX6_kindMany S hK hM hS hx1 ⟨Nat.le_of_ble_eq_true rfl, Nat.le_of_ble_eq_true rfl⟩ hl.1 (Nat.le_of_ble_eq_true rfl) dX6_isKind_4 (fun H locs hM hS => ?_)
  refine lv_iconst (v := (1 : Int32)) hx hb dX6_isKind_7 (by decide) ?_
  refine lv_isub hx hb dX6_isKind_8 ?_
  refine lv_i2l (v := (x1 - (1 : Int32)).toInt64) hx hb dX6_isKind_9 rfl ?_
  replace h := ob h
  obtain ⟨x2, hx2, h⟩ := h
  refine kX6_isIn S hK hM hS hx2 ⟨Nat.le_of_ble_eq_true rfl, Nat.le_of_ble_eq_true rfl⟩ hl.1 (Nat.le_of_ble_eq_true rfl) dX6_isKind_10 (fun H locs hM hS => ?_)
  replace h := ob h
  obtain ⟨z3, hz3, h⟩ := h
  obtain ⟨hz3a, -, -⟩ := zr_e hz3
  exact m_iret' S hr hlk hz3a hM hS h dX6_isKind_13
theorem kX6_isKind {p : Program} {l : Launch} {e : Env} {R : Room} {s : State} {m : MethodId} {args : Array Value} {below : List Frame} {meth : Method} {c : Code} {H H0 : Heap} {locs : List Loc} {Q : State → Prop} {cc : ByteArray} {nL pc : Nat} {ls : Array Slot} {rest : List Value} {G : mG} {b : Nat} {σ : MS} {a1 : Int32} {x : Int32} (S : CallFix p m c cc nL s args lw_all RX6) (hK : mK G s) (hM : MW G b σ H) (hS : va_S (mB b) H0 H locs) (hf : fX6_isKind σ a1 = some x) (hR : rmX6_isKind.frames + 1 ≤ R.frames ∧ 8 + (2 + 11) + rmX6_isKind.locals ≤ R.locals) (hsize : ls.size = nL) (hr : (rest.map fun v => v.category).sum ≤ 8) (hdg : decode cc pc = .ok (.invokevirtual 525, 3)) (kk : ∀ (H1 : Heap) (locs1 : List Loc), MW G b σ H1 → va_S (mB b) H0 H1 locs1 → W p l e R s m args below meth c H1 locs1 0 0 Q (F0 m (pc + 3) ls (.int x :: rest))) : W p l e R s m args below meth c H locs 0 0 Q (F0 m pc ls (.int a1 :: .ref b :: rest)) :=
  m_cVi (As := [.int a1]) S hK hM hS (metX6_isKind hf) (cwV 1 S.2.2.2.2 (lw_V q2290 q2292 qs115 q179 q2293) rfl rfl rfl (by decide +kernel) hR) ⟨Nat.zero_le _, Nat.zero_le _⟩ rfl hsize rfl hr hdg kk
/-! partsOf(I)I -/
abbrev rmX6_partsOf : Room := { frames := 1, cells := 0, slots := 0, locals := 0 }
def fX6_partsOf (σ : MS) (a1 : Int32) : Option (Int32) :=
  (aI σ 42 ((8 : Int32) + a1)).bind fun v1 =>
  some v1
set_option maxHeartbeats 4000000 in
theorem metX6_partsOf {l : Launch} {G : mG} {b : Nat} {σ : MS} {a1 : Int32} {x : Int32} (h : fX6_partsOf σ a1 = some x) : Met l yX6_partsOf (ws_ yX6_partsOf cX6_partsOf 2 (some .int)) rmX6_partsOf (mP G b σ [.ref b, .int a1]) (mQi G b (σ, x)) 0 0 (mB b) := by
  refine m_entry (by decide) rfl (Nat.le_of_ble_eq_true rfl) ?_
  intro p e s m below meth c S hr hlk hK hM hS ls hl
  replace hl : lv_has ls 2 [(0, .ref b), (1, .int a1)] := hl
  obtain ⟨hx, hb, hml, hown, hts⟩ := id S
  unfold fX6_partsOf at h
  refine lv_aload_n hx hb dX6_partsOf_0 rfl (lv_at hl 0 rfl) ?_
  refine m_get S hK hM 42 (Nat.le_of_ble_eq_true rfl) q1774 (v := .ref (ma b 42)) rfl dX6_partsOf_1 ?_
  refine lv_bipush (v := (8 : Int32)) hx hb dX6_partsOf_4 (by decide) ?_
  refine lv_iload_n hx hb dX6_partsOf_6 rfl (lv_at hl 1 rfl) ?_
  refine lv_iadd hx hb dX6_partsOf_7 ?_
  replace h := ob h
  obtain ⟨v1, hv1, h⟩ := h
  refine m_iald S hK hM 42 rfl hv1 dX6_partsOf_8 ?_
  exact m_iret' S hr hlk rfl hM hS h dX6_partsOf_9
theorem kX6_partsOf {p : Program} {l : Launch} {e : Env} {R : Room} {s : State} {m : MethodId} {args : Array Value} {below : List Frame} {meth : Method} {c : Code} {H H0 : Heap} {locs : List Loc} {Q : State → Prop} {cc : ByteArray} {nL pc : Nat} {ls : Array Slot} {rest : List Value} {G : mG} {b : Nat} {σ : MS} {a1 : Int32} {x : Int32} (S : CallFix p m c cc nL s args lw_all RX6) (hK : mK G s) (hM : MW G b σ H) (hS : va_S (mB b) H0 H locs) (hf : fX6_partsOf σ a1 = some x) (hR : rmX6_partsOf.frames + 1 ≤ R.frames ∧ 8 + (2 + 11) + rmX6_partsOf.locals ≤ R.locals) (hsize : ls.size = nL) (hr : (rest.map fun v => v.category).sum ≤ 8) (hdg : decode cc pc = .ok (.invokevirtual 445, 3)) (kk : ∀ (H1 : Heap) (locs1 : List Loc), MW G b σ H1 → va_S (mB b) H0 H1 locs1 → W p l e R s m args below meth c H1 locs1 0 0 Q (F0 m (pc + 3) ls (.int x :: rest))) : W p l e R s m args below meth c H locs 0 0 Q (F0 m pc ls (.int a1 :: .ref b :: rest)) :=
  m_cVi (As := [.int a1]) S hK hM hS (metX6_partsOf hf) (cwV 1 S.2.2.2.2 (lw_V q2302 q2304 qs118 q179 q2305) rfl rfl rfl (by decide +kernel) hR) ⟨Nat.zero_le _, Nat.zero_le _⟩ rfl hsize rfl hr hdg kk
/-! weightOf(II)I -/
abbrev rmX6_weightOf : Room := { frames := 1, cells := 0, slots := 0, locals := 0 }
def fX6_weightOf (σ : MS) (a1 : Int32) (a2 : Int32) : Option (Int32) :=
  (aI σ 43 (((48 : Int32) + ((6 : Int32) * a1)) + a2)).bind fun v1 =>
  some v1
set_option maxHeartbeats 4000000 in
theorem metX6_weightOf {l : Launch} {G : mG} {b : Nat} {σ : MS} {a1 : Int32} {a2 : Int32} {x : Int32} (h : fX6_weightOf σ a1 a2 = some x) : Met l yX6_weightOf (ws_ yX6_weightOf cX6_weightOf 3 (some .int)) rmX6_weightOf (mP G b σ [.ref b, .int a1, .int a2]) (mQi G b (σ, x)) 0 0 (mB b) := by
  refine m_entry (by decide) rfl (Nat.le_of_ble_eq_true rfl) ?_
  intro p e s m below meth c S hr hlk hK hM hS ls hl
  replace hl : lv_has ls 3 [(0, .ref b), (1, .int a1), (2, .int a2)] := hl
  obtain ⟨hx, hb, hml, hown, hts⟩ := id S
  unfold fX6_weightOf at h
  refine lv_aload_n hx hb dX6_weightOf_0 rfl (lv_at hl 0 rfl) ?_
  refine m_get S hK hM 43 (Nat.le_of_ble_eq_true rfl) q1775 (v := .ref (ma b 43)) rfl dX6_weightOf_1 ?_
  refine lv_bipush (v := (48 : Int32)) hx hb dX6_weightOf_4 (by decide) ?_
  refine lv_bipush (v := (6 : Int32)) hx hb dX6_weightOf_6 (by decide) ?_
  refine lv_iload_n hx hb dX6_weightOf_8 rfl (lv_at hl 1 rfl) ?_
  refine lv_imul hx hb dX6_weightOf_9 ?_
  refine lv_iadd hx hb dX6_weightOf_10 ?_
  refine lv_iload_n hx hb dX6_weightOf_11 rfl (lv_at hl 2 rfl) ?_
  refine lv_iadd hx hb dX6_weightOf_12 ?_
  replace h := ob h
  obtain ⟨v1, hv1, h⟩ := h
  refine m_iald S hK hM 43 rfl hv1 dX6_weightOf_13 ?_
  exact m_iret' S hr hlk rfl hM hS h dX6_weightOf_14
theorem kX6_weightOf {p : Program} {l : Launch} {e : Env} {R : Room} {s : State} {m : MethodId} {args : Array Value} {below : List Frame} {meth : Method} {c : Code} {H H0 : Heap} {locs : List Loc} {Q : State → Prop} {cc : ByteArray} {nL pc : Nat} {ls : Array Slot} {rest : List Value} {G : mG} {b : Nat} {σ : MS} {a1 : Int32} {a2 : Int32} {x : Int32} (S : CallFix p m c cc nL s args lw_all RX6) (hK : mK G s) (hM : MW G b σ H) (hS : va_S (mB b) H0 H locs) (hf : fX6_weightOf σ a1 a2 = some x) (hR : rmX6_weightOf.frames + 1 ≤ R.frames ∧ 8 + (3 + 11) + rmX6_weightOf.locals ≤ R.locals) (hsize : ls.size = nL) (hr : (rest.map fun v => v.category).sum ≤ 8) (hdg : decode cc pc = .ok (.invokevirtual 417, 3)) (kk : ∀ (H1 : Heap) (locs1 : List Loc), MW G b σ H1 → va_S (mB b) H0 H1 locs1 → W p l e R s m args below meth c H1 locs1 0 0 Q (F0 m (pc + 3) ls (.int x :: rest))) : W p l e R s m args below meth c H locs 0 0 Q (F0 m pc ls (.int a2 :: .int a1 :: .ref b :: rest)) :=
  m_cVi (As := [.int a1, .int a2]) S hK hM hS (metX6_weightOf hf) (cwV 2 S.2.2.2.2 (lw_V q2298 q2300 qs117 q179 q2301) rfl rfl rfl (by decide +kernel) hR) ⟨Nat.zero_le _, Nat.zero_le _⟩ rfl hsize rfl hr hdg kk
/-! film(II)I -/
abbrev rmX6_film : Room := { frames := 3, cells := 0, slots := 0, locals := 46 }
def fX6_film_37 (σ : MS) (a1 : Int32) (a2 : Int32) : Option (Int32) :=
  if a2 = 0 then
    (fX6_partsOf σ a1).bind fun x2 =>
    some x2
  else
  some (-1 : Int32)
def fX6_film (σ : MS) (a1 : Int32) (a2 : Int32) : Option (Int32) :=
  (fX6_isFilm σ a1).bind fun x1 =>
  if x1 = 0 then
    some (-1 : Int32)
  else
  if a2 < (10 : Int32) then
    fX6_film_37 σ a1 a2
  else
  (fX6_isKind σ (a2 - (10 : Int32))).bind fun x4 =>
  if x4 = 0 then
    fX6_film_37 σ a1 a2
  else
  (fX6_weightOf σ a1 (a2 - (10 : Int32))).bind fun x6 =>
  some x6
set_option maxHeartbeats 4000000 in
theorem wX6_film_37 {p : Program} {l : Launch} {e : Env} {s : State} {m : MethodId} {args : Array Value} {below : List Frame} {meth : Method} {c : Code} {G : mG} {b : Nat} {σ : MS} (S : CallFix p m c cX6_film 3 s args lw_all RX6) (hr : meth.sig.returnType = some .int) (hlk : meth.locks = false) (hK : mK G s) {x : Int32} : ∀ (a1 : Int32) (a2 : Int32), fX6_film_37 σ a1 a2 = some x → mGo p l e rmX6_film s m args below meth c G b (MQ below (mQi G b (σ, x)) args s 0 0 (mB b)) 3 37 [(0, .ref b), (1, .int a1), (2, .int a2)] [] σ := by
  obtain ⟨hx, hb, hml, hown, hts⟩ := id S
  intro a1 a2 h H locs hM hS ls hl
  unfold fX6_film_37 at h
  refine lv_iload_n hx hb dX6_film_37 rfl (lv_at hl 2 rfl) ?_
  refine lv_if_ne (tgt := 49) hx hb dX6_film_38 (by decide) (fun c1 => ?_) (fun c1 => ?_)
  · replace h := ie c1 h
    refine lv_iconst (v := (-1 : Int32)) hx hb dX6_film_49 (by decide) ?_
    exact m_iret' S hr hlk rfl hM hS h dX6_film_50
  replace h := it c1 h
  refine lv_aload_n hx hb dX6_film_41 rfl (lv_at hl 0 rfl) ?_
  refine lv_iload_n hx hb dX6_film_42 rfl (lv_at hl 1 rfl) ?_
  replace h := ob h
  obtain ⟨x2, hx2, h⟩ := h
  refine kX6_partsOf S hK hM hS hx2 ⟨Nat.le_of_ble_eq_true rfl, Nat.le_of_ble_eq_true rfl⟩ hl.1 (Nat.le_of_ble_eq_true rfl) dX6_film_43 (fun H locs hM hS => ?_)
  refine lv_goto (tgt := 50) hx hb dX6_film_46 (by decide) ?_
  exact m_iret' S hr hlk rfl hM hS h dX6_film_50
set_option maxHeartbeats 4000000 in
theorem metX6_film {l : Launch} {G : mG} {b : Nat} {σ : MS} {a1 : Int32} {a2 : Int32} {x : Int32} (h : fX6_film σ a1 a2 = some x) : Met l yX6_film (ws_ yX6_film cX6_film 3 (some .int)) rmX6_film (mP G b σ [.ref b, .int a1, .int a2]) (mQi G b (σ, x)) 0 0 (mB b) := by
  refine m_entry (by decide) rfl (Nat.le_of_ble_eq_true rfl) ?_
  intro p e s m below meth c S hr hlk hK hM hS ls hl
  replace hl : lv_has ls 3 [(0, .ref b), (1, .int a1), (2, .int a2)] := hl
  obtain ⟨hx, hb, hml, hown, hts⟩ := id S
  unfold fX6_film at h
  refine lv_aload_n hx hb dX6_film_0 rfl (lv_at hl 0 rfl) ?_
  refine lv_iload_n hx hb dX6_film_1 rfl (lv_at hl 1 rfl) ?_
  replace h := ob h
  obtain ⟨x1, hx1, h⟩ := h
  refine kX6_isFilm S hK hM hS hx1 ⟨Nat.le_of_ble_eq_true rfl, Nat.le_of_ble_eq_true rfl⟩ hl.1 (Nat.le_of_ble_eq_true rfl) dX6_film_2 (fun H locs hM hS => ?_)
  refine lv_if_ne (tgt := 10) hx hb dX6_film_5 (by decide) (fun c2 => ?_) (fun c2 => ?_)
  rotate_left 1
  · replace h := it c2 h
    refine lv_iconst (v := (-1 : Int32)) hx hb dX6_film_8 (by decide) ?_
    exact m_iret' S hr hlk rfl hM hS h dX6_film_9
  replace h := ie c2 h
  refine lv_iload_n hx hb dX6_film_10 rfl (lv_at hl 2 rfl) ?_
  refine lv_bipush (v := (10 : Int32)) hx hb dX6_film_11 (by decide) ?_
  refine lv_icmp_lt (tgt := 37) hx hb dX6_film_13 (by decide) (fun c3 => ?_) (fun c3 => ?_)
  · replace h := it c3 h
    exact wX6_film_37 S hr hlk hK a1 a2 h _ _ hM hS _ (lv_sub hl [0, 1, 2] rfl)
  replace h := ie c3 h
  refine lv_aload_n hx hb dX6_film_16 rfl (lv_at hl 0 rfl) ?_
  refine lv_iload_n hx hb dX6_film_17 rfl (lv_at hl 2 rfl) ?_
  refine lv_bipush (v := (10 : Int32)) hx hb dX6_film_18 (by decide) ?_
  refine lv_isub hx hb dX6_film_20 ?_
  replace h := ob h
  obtain ⟨x4, hx4, h⟩ := h
  refine kX6_isKind S hK hM hS hx4 ⟨Nat.le_of_ble_eq_true rfl, Nat.le_of_ble_eq_true rfl⟩ hl.1 (Nat.le_of_ble_eq_true rfl) dX6_film_21 (fun H locs hM hS => ?_)
  refine lv_if_eq (tgt := 37) hx hb dX6_film_24 (by decide) (fun c5 => ?_) (fun c5 => ?_)
  · replace h := it c5 h
    exact wX6_film_37 S hr hlk hK a1 a2 h _ _ hM hS _ (lv_sub hl [0, 1, 2] rfl)
  replace h := ie c5 h
  refine lv_aload_n hx hb dX6_film_27 rfl (lv_at hl 0 rfl) ?_
  refine lv_iload_n hx hb dX6_film_28 rfl (lv_at hl 1 rfl) ?_
  refine lv_iload_n hx hb dX6_film_29 rfl (lv_at hl 2 rfl) ?_
  refine lv_bipush (v := (10 : Int32)) hx hb dX6_film_30 (by decide) ?_
  refine lv_isub hx hb dX6_film_32 ?_
  replace h := ob h
  obtain ⟨x6, hx6, h⟩ := h
  refine kX6_weightOf S hK hM hS hx6 ⟨Nat.le_of_ble_eq_true rfl, Nat.le_of_ble_eq_true rfl⟩ hl.1 (Nat.le_of_ble_eq_true rfl) dX6_film_33 (fun H locs hM hS => ?_)
  exact m_iret' S hr hlk rfl hM hS h dX6_film_36

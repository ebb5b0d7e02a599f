set_option maxRecDepth 100000
/-! qEndsPart()V -/
abbrev rmX6_qEndsPart : Room := { frames := 3, cells := 0, slots := 0, locals := 41 }
def fX6_qEndsPart_0 : Nat → MS → Option (MS)
  | 0, _ => none
  | n + 1, σ =>
    if (σ.1 5) = 0 then
      if (σ.1 94) ≤ (σ.1 96) then
        some σ
      else
      (aI σ 93 ((σ.1 94) - (1 : Int32))).bind fun v3 =>
      if v3 < (60 : Int32) then
        some σ
      else
      (fX6_qDrops (sI σ 95 ((σ.1 95) - (1 : Int32)))).bind fun x5 =>
      fX6_qEndsPart_0 n x5
    else
    some σ
def fX6_qEndsPart (σ : MS) : Option (MS) :=
  fX6_qEndsPart_0 FU σ
set_option maxHeartbeats 4000000 in
theorem wX6_qEndsPart_0 {p : Program} {l : Launch} {e : Env} {s : State} {m : MethodId} {args : Array Value} {below : List Frame} {meth : Method} {c : Code} {G : mG} {b : Nat} (S : CallFix p m c cX6_qEndsPart 1 s args lw_all RX6) (hr : meth.sig.returnType = none) (hlk : meth.locks = false) (hK : mK G s) {x : MS} : ∀ (n : Nat) (σ : MS), fX6_qEndsPart_0 n σ = some x → mGo p l e rmX6_qEndsPart s m args below meth c G b (MQ below (mQv G b x) args s 0 0 (mB b)) 1 0 [(0, .ref b)] [] σ := by
  obtain ⟨hx, hb, hml, hown, hts⟩ := id S
  intro n
  induction n with
  | zero => intro σ h; cases h
  | succ n ih =>
    intro σ h H locs hM hS ls hl
    rw [fX6_qEndsPart_0] at h
    refine lv_aload_n hx hb dX6_qEndsPart_0 rfl (lv_at hl 0 rfl) ?_
    refine m_get S hK hM 5 (Nat.le_of_ble_eq_true rfl) q1737 (v := .int (σ.1 5)) rfl dX6_qEndsPart_1 ?_
    refine lv_if_ne (tgt := 51) hx hb dX6_qEndsPart_4 (by decide) (fun c1 => ?_) (fun c1 => ?_)
    · replace h := ie c1 h
      exact m_vret S hr hlk hM hS h dX6_qEndsPart_51
    replace h := it c1 h
    refine lv_aload_n hx hb dX6_qEndsPart_7 rfl (lv_at hl 0 rfl) ?_
    refine m_get S hK hM 94 (Nat.le_of_ble_eq_true rfl) q1826 (v := .int (σ.1 94)) rfl dX6_qEndsPart_8 ?_
    refine lv_aload_n hx hb dX6_qEndsPart_11 rfl (lv_at hl 0 rfl) ?_
    refine m_get S hK hM 96 (Nat.le_of_ble_eq_true rfl) q1828 (v := .int (σ.1 96)) rfl dX6_qEndsPart_12 ?_
    refine lv_icmp_le (tgt := 51) hx hb dX6_qEndsPart_15 (by decide) (fun c2 => ?_) (fun c2 => ?_)
    · replace h := it c2 h
      exact m_vret S hr hlk hM hS h dX6_qEndsPart_51
    replace h := ie c2 h
    refine lv_aload_n hx hb dX6_qEndsPart_18 rfl (lv_at hl 0 rfl) ?_
    refine m_get S hK hM 93 (Nat.le_of_ble_eq_true rfl) q1825 (v := .ref (ma b 93)) rfl dX6_qEndsPart_19 ?_
    refine lv_aload_n hx hb dX6_qEndsPart_22 rfl (lv_at hl 0 rfl) ?_
    refine m_get S hK hM 94 (Nat.le_of_ble_eq_true rfl) q1826 (v := .int (σ.1 94)) rfl dX6_qEndsPart_23 ?_
    refine lv_iconst (v := (1 : Int32)) hx hb dX6_qEndsPart_26 (by decide) ?_
    refine lv_isub hx hb dX6_qEndsPart_27 ?_
    replace h := ob h
    obtain ⟨v3, hv3, h⟩ := h
    refine m_iald S hK hM 93 rfl hv3 dX6_qEndsPart_28 ?_
    refine lv_bipush (v := (60 : Int32)) hx hb dX6_qEndsPart_29 (by decide) ?_
    refine lv_icmp_lt (tgt := 51) hx hb dX6_qEndsPart_31 (by decide) (fun c4 => ?_) (fun c4 => ?_)
    · replace h := it c4 h
      exact m_vret S hr hlk hM hS h dX6_qEndsPart_51
    replace h := ie c4 h
    refine lv_aload_n hx hb dX6_qEndsPart_34 rfl (lv_at hl 0 rfl) ?_
    refine lv_dup hx hb dX6_qEndsPart_35 rfl ?_
    refine m_get S hK hM 95 (Nat.le_of_ble_eq_true rfl) q1827 (v := .int (σ.1 95)) rfl dX6_qEndsPart_36 ?_
    refine lv_iconst (v := (1 : Int32)) hx hb dX6_qEndsPart_39 (by decide) ?_
    refine lv_isub hx hb dX6_qEndsPart_40 ?_
    refine m_putI S hK hM hS 95 (Nat.le_of_ble_eq_true rfl) rfl q1827 rfl (ty := .int) rfl rfl rfl dX6_qEndsPart_41 (fun H locs hM hS => ?_)
    refine lv_aload_n hx hb dX6_qEndsPart_44 rfl (lv_at hl 0 rfl) ?_
    replace h := ob h
    obtain ⟨x5, hx5, h⟩ := h
    refine kX6_qDrops S hK hM hS hx5 ⟨Nat.le_of_ble_eq_true rfl, Nat.le_of_ble_eq_true rfl⟩ hl.1 (Nat.le_of_ble_eq_true rfl) dX6_qEndsPart_45 (fun H locs hM hS => ?_)
    refine lv_goto (tgt := 0) hx hb dX6_qEndsPart_48 (by decide) ?_
    exact ih x5 h _ _ hM hS _ (lv_sub hl [0] rfl)
set_option maxHeartbeats 4000000 in
theorem metX6_qEndsPart {l : Launch} {G : mG} {b : Nat} {σ : MS} {x : MS} (h : fX6_qEndsPart σ = some x) : Met l yX6_qEndsPart (ws_ yX6_qEndsPart cX6_qEndsPart 1 (none)) rmX6_qEndsPart (mP G b σ [.ref b]) (mQv G b x) 0 0 (mB b) := by
  refine m_entry (by decide) rfl (Nat.le_of_ble_eq_true rfl) ?_
  intro p e s m below meth c S hr hlk hK hM hS ls hl
  replace hl : lv_has ls 1 [(0, .ref b)] := hl
  obtain ⟨hx, hb, hml, hown, hts⟩ := id S
  unfold fX6_qEndsPart at h
  exact wX6_qEndsPart_0 S hr hlk hK FU σ h _ _ hM hS _ (lv_sub hl [0] rfl)
theorem kX6_qEndsPart {p : Program} {l : Launch} {e : Env} {R : Room} {s : State} {m : MethodId} {args : Array Value} {below : List Frame} {meth : Method} {c : Code} {H H0 : Heap} {locs : List Loc} {Q : State → Prop} {cc : ByteArray} {nL pc : Nat} {ls : Array Slot} {rest : List Value} {G : mG} {b : Nat} {σ : MS} {x : MS} (S : CallFix p m c cc nL s args lw_all RX6) (hK : mK G s) (hM : MW G b σ H) (hS : va_S (mB b) H0 H locs) (hf : fX6_qEndsPart σ = some x) (hR : rmX6_qEndsPart.frames + 1 ≤ R.frames ∧ 8 + (1 + 11) + rmX6_qEndsPart.locals ≤ R.locals) (hsize : ls.size = nL) (hr : (rest.map fun v => v.category).sum ≤ 8) (hdg : decode cc pc = .ok (.invokevirtual 619, 3)) (kk : ∀ (H1 : Heap) (locs1 : List Loc), MW G b x H1 → va_S (mB b) H0 H1 locs1 → W p l e R s m args below meth c H1 locs1 0 0 Q (F0 m (pc + 3) ls (rest))) : W p l e R s m args below meth c H locs 0 0 Q (F0 m pc ls (.ref b :: rest)) :=
  m_cVv (As := []) S hK hM hS (metX6_qEndsPart hf) (cwV 0 S.2.2.2.2 (lw_V q2195 q2197 qs97 q179 q2198) rfl rfl rfl (by decide +kernel) hR) ⟨Nat.zero_le _, Nat.zero_le _⟩ rfl hsize rfl hr hdg kk
/-! qIsOn(I)Z -/
abbrev rmX6_qIsOn : Room := { frames := 1, cells := 0, slots := 0, locals := 0 }
def fX6_qIsOn (σ : MS) (a1 : Int32) : Option (Int32) :=
  if (σ.1 94) ≤ 0 then
    some (0 : Int32)
  else
  (aI σ 93 ((σ.1 94) - (1 : Int32))).bind fun v2 =>
  if v2 = a1 then
    some (1 : Int32)
  else
  some (0 : Int32)
set_option maxHeartbeats 4000000 in
theorem metX6_qIsOn {l : Launch} {G : mG} {b : Nat} {σ : MS} {a1 : Int32} {x : Int32} (h : fX6_qIsOn σ a1 = some x) : Met l yX6_qIsOn (ws_ yX6_qIsOn cX6_qIsOn 2 (some .boolean)) rmX6_qIsOn (mP G b σ [.ref b, .int a1]) (mQi G b (σ, x)) 0 0 (mB b) := by
  refine m_entry (by decide) rfl (Nat.le_of_ble_eq_true rfl) ?_
  intro p e s m below meth c S hr hlk hK hM hS ls hl
  replace hl : lv_has ls 2 [(0, .ref b), (1, .int a1)] := hl
  obtain ⟨hx, hb, hml, hown, hts⟩ := id S
  unfold fX6_qIsOn at h
  refine lv_aload_n hx hb dX6_qIsOn_0 rfl (lv_at hl 0 rfl) ?_
  refine m_get S hK hM 94 (Nat.le_of_ble_eq_true rfl) q1826 (v := .int (σ.1 94)) rfl dX6_qIsOn_1 ?_
  refine lv_if_le (tgt := 26) hx hb dX6_qIsOn_4 (by decide) (fun c1 => ?_) (fun c1 => ?_)
  · replace h := it c1 h
    refine lv_iconst (v := (0 : Int32)) hx hb dX6_qIsOn_26 (by decide) ?_
    exact m_iret' S hr hlk rfl hM hS h dX6_qIsOn_27
  replace h := ie c1 h
  refine lv_aload_n hx hb dX6_qIsOn_7 rfl (lv_at hl 0 rfl) ?_
  refine m_get S hK hM 93 (Nat.le_of_ble_eq_true rfl) q1825 (v := .ref (ma b 93)) rfl dX6_qIsOn_8 ?_
  refine lv_aload_n hx hb dX6_qIsOn_11 rfl (lv_at hl 0 rfl) ?_
  refine m_get S hK hM 94 (Nat.le_of_ble_eq_true rfl) q1826 (v := .int (σ.1 94)) rfl dX6_qIsOn_12 ?_
  refine lv_iconst (v := (1 : Int32)) hx hb dX6_qIsOn_15 (by decide) ?_
  refine lv_isub hx hb dX6_qIsOn_16 ?_
  replace h := ob h
  obtain ⟨v2, hv2, h⟩ := h
  refine m_iald S hK hM 93 rfl hv2 dX6_qIsOn_17 ?_
  refine lv_iload_n hx hb dX6_qIsOn_18 rfl (lv_at hl 1 rfl) ?_
  refine lv_icmp_ne (tgt := 26) hx hb dX6_qIsOn_19 (by decide) (fun c3 => ?_) (fun c3 => ?_)
  · replace h := ie c3 h
    refine lv_iconst (v := (0 : Int32)) hx hb dX6_qIsOn_26 (by decide) ?_
    exact m_iret' S hr hlk rfl hM hS h dX6_qIsOn_27
  replace h := it c3 h
  refine lv_iconst (v := (1 : Int32)) hx hb dX6_qIsOn_22 (by decide) ?_
  refine lv_goto (tgt := 27) hx hb dX6_qIsOn_23 (by decide) ?_
  exact m_iret' S hr hlk rfl hM hS h dX6_qIsOn_27
theorem kX6_qIsOn {p : Program} {l : Launch} {e : Env} {R : Room} {s : State} {m : MethodId} {args : Array Value} {below : List Frame} {meth : Method} {c : Code} {H H0 : Heap} {locs : List Loc} {Q : State → Prop} {cc : ByteArray} {nL pc : Nat} {ls : Array Slot} {rest : List Value} {G : mG} {b : Nat} {σ : MS} {a1 : Int32} {x : Int32} (S : CallFix p m c cc nL s args lw_all RX6) (hK : mK G s) (hM : MW G b σ H) (hS : va_S (mB b) H0 H locs) (hf : fX6_qIsOn σ a1 = some x) (hR : rmX6_qIsOn.frames + 1 ≤ R.frames ∧ 8 + (2 + 11) + rmX6_qIsOn.locals ≤ R.locals) (hsize : ls.size = nL) (hr : (rest.map fun v => v.category).sum ≤ 8) (hdg : decode cc pc = .ok (.invokevirtual 628, 3)) (kk : ∀ (H1 : Heap) (locs1 : List Loc), MW G b σ H1 → va_S (mB b) H0 H1 locs1 → W p l e R s m args below meth c H1 locs1 0 0 Q (F0 m (pc + 3) ls (.int x :: rest))) : W p l e R s m args below meth c H locs 0 0 Q (F0 m pc ls (.int a1 :: .ref b :: rest)) :=
  m_cVi (As := [.int a1]) S hK hM hS (metX6_qIsOn hf) (cwV 1 S.2.2.2.2 (lw_V q2218 q2220 qs102 q179 q2221) rfl rfl rfl (by decide +kernel) hR) ⟨Nat.zero_le _, Nat.zero_le _⟩ rfl hsize rfl hr hdg kk
/-! qGoesOn()Z -/
abbrev rmX6_qGoesOn : Room := { frames := 4, cells := 0, slots := 0, locals := 62 }
def fX6_qGoesOn_115 (k0 : MS → Option (MS × Int32)) (σ : MS) : Option (MS × Int32) :=
  (fX6_qEndsPart σ).bind fun x1 =>
  k0 x1
def fX6_qGoesOn_112 (k0 : MS → Option (MS × Int32)) (σ : MS) (t1 : Int32) : Option (MS × Int32) :=
  (fX6_qCode σ t1).bind fun x1 =>
  fX6_qGoesOn_115 k0 x1
def fX6_qGoesOn_43 (k0 : MS → Option (MS × Int32)) (σ : MS) : Option (MS × Int32) :=
  (fX6_qDropsToBracket (sI σ 2 ((σ.1 2) + (1 : Int32)))).bind fun x1 =>
  (aI (sI (sI x1 94 ((x1.1 94) - (1 : Int32))) 95 (((sI x1 94 ((x1.1 94) - (1 : Int32))).1 95) - (1 : Int32))) 93 ((sI (sI x1 94 ((x1.1 94) - (1 : Int32))) 95 (((sI x1 94 ((x1.1 94) - (1 : Int32))).1 95) - (1 : Int32))).1 94)).bind fun v2 =>
  if v2 = (20 : Int32) then
    fX6_qGoesOn_115 k0 (sI (sI x1 94 ((x1.1 94) - (1 : Int32))) 95 (((sI x1 94 ((x1.1 94) - (1 : Int32))).1 95) - (1 : Int32)))
  else
  (aI (sI (sI x1 94 ((x1.1 94) - (1 : Int32))) 95 (((sI x1 94 ((x1.1 94) - (1 : Int32))).1 95) - (1 : Int32))) 93 ((sI (sI x1 94 ((x1.1 94) - (1 : Int32))) 95 (((sI x1 94 ((x1.1 94) - (1 : Int32))).1 95) - (1 : Int32))).1 94)).bind fun v4 =>
  if v4 = (23 : Int32) then
    fX6_qGoesOn_112 k0 (sI (sI x1 94 ((x1.1 94) - (1 : Int32))) 95 (((sI x1 94 ((x1.1 94) - (1 : Int32))).1 95) - (1 : Int32))) (5 : Int32)
  else
  fX6_qGoesOn_112 k0 (sI (sI x1 94 ((x1.1 94) - (1 : Int32))) 95 (((sI x1 94 ((x1.1 94) - (1 : Int32))).1 95) - (1 : Int32))) (6 : Int32)
def fX6_qGoesOn_178 (k162 : MS → Int32 → Option (MS × Int32)) (σ : MS) (a1 : Int32) : Option (MS × Int32) :=
  (fX6_qDrops σ).bind fun x1 =>
  k162 x1 a1
def fX6_qGoesOn_162 : Nat → MS → Int32 → Option (MS × Int32)
  | 0, _, _ => none
  | n + 1, σ, a1 =>
    (fX6_qIsOn σ (3 : Int32)).bind fun x1 =>
    if x1 = 0 then
      (fX6_qIsOn σ (4 : Int32)).bind fun x3 =>
      if x3 = 0 then
        (tI σ 93 (σ.1 94) a1).bind fun σ5 =>
        some ((sI σ5 94 ((σ5.1 94) + (1 : Int32))), (1 : Int32))
      else
      fX6_qGoesOn_178 (fun σ' b1 => fX6_qGoesOn_162 n σ' b1) σ a1
    else
    fX6_qGoesOn_178 (fun σ' b1 => fX6_qGoesOn_162 n σ' b1) σ a1
def fX6_qGoesOn_161 (σ : MS) (t0 : Int32) : Option (MS × Int32) :=
  fX6_qGoesOn_162 FU σ t0
def fX6_qGoesOn_140 (σ : MS) : Option (MS × Int32) :=
  (aI σ 0 ((σ.1 2) - (1 : Int32))).bind fun v1 =>
  if v1 = (42 : Int32) then
    fX6_qGoesOn_161 σ (3 : Int32)
  else
  fX6_qGoesOn_161 σ (4 : Int32)
def fX6_qGoesOn_279 (k247 : MS → Int32 → Option (MS × Int32)) (σ : MS) (a1 : Int32) : Option (MS × Int32) :=
  (fX6_qDrops σ).bind fun x1 =>
  k247 x1 a1
def fX6_qGoesOn_247 : Nat → MS → Int32 → Option (MS × Int32)
  | 0, _, _ => none
  | n + 1, σ, a1 =>
    (fX6_qIsOn σ (3 : Int32)).bind fun x1 =>
    if x1 = 0 then
      (fX6_qIsOn σ (4 : Int32)).bind fun x3 =>
      if x3 = 0 then
        (fX6_qIsOn σ (1 : Int32)).bind fun x5 =>
        if x5 = 0 then
          (fX6_qIsOn σ (2 : Int32)).bind fun x7 =>
          if x7 = 0 then
            (tI σ 93 (σ.1 94) a1).bind fun σ9 =>
            some ((sI σ9 94 ((σ9.1 94) + (1 : Int32))), (1 : Int32))
          else
          fX6_qGoesOn_279 (fun σ' b1 => fX6_qGoesOn_247 n σ' b1) σ a1
        else
        fX6_qGoesOn_279 (fun σ' b1 => fX6_qGoesOn_247 n σ' b1) σ a1
      else
      fX6_qGoesOn_279 (fun σ' b1 => fX6_qGoesOn_247 n σ' b1) σ a1
    else
    fX6_qGoesOn_279 (fun σ' b1 => fX6_qGoesOn_247 n σ' b1) σ a1
def fX6_qGoesOn_246 (σ : MS) (t0 : Int32) : Option (MS × Int32) :=
  fX6_qGoesOn_247 FU σ t0
def fX6_qGoesOn_225 (σ : MS) : Option (MS × Int32) :=
  (aI σ 0 ((σ.1 2) - (1 : Int32))).bind fun v1 =>
  if v1 = (43 : Int32) then
    fX6_qGoesOn_246 σ (1 : Int32)
  else
  fX6_qGoesOn_246 σ (2 : Int32)
def fX6_qGoesOn_326 (σ : MS) : Option (MS × Int32) :=
  (fX6_asksSign σ (44 : Int32)).bind fun x1 =>
  if (x1.1 5) = 0 then
    (fX6_qDropsToBracket x1).bind fun x3 =>
    (aI x3 93 ((x3.1 94) - (1 : Int32))).bind fun v4 =>
    (tI x3 93 ((x3.1 94) - (1 : Int32)) (v4 + (2 : Int32))).bind fun σ5 =>
    some (σ5, (1 : Int32))
  else
  some (x1, (0 : Int32))
def fX6_qGoesOn_122 (σ : MS) : Option (MS × Int32) :=
  (fX6_takesSign σ (42 : Int32)).bind fun x1 =>
  if x1.2 = 0 then
    (fX6_takesSign x1.1 (47 : Int32)).bind fun x3 =>
    if x3.2 = 0 then
      (fX6_takesSign x3.1 (43 : Int32)).bind fun x5 =>
      if x5.2 = 0 then
        (fX6_takesSign x5.1 (45 : Int32)).bind fun x7 =>
        if x7.2 = 0 then
          (fX6_qBracket x7.1).bind fun x9 =>
          if x9 = (21 : Int32) then
            fX6_qGoesOn_326 x7.1
          else
          (fX6_qBracket x7.1).bind fun x11 =>
          if x11 = (22 : Int32) then
            fX6_qGoesOn_326 x7.1
          else
          (fX6_qBracket x7.1).bind fun x13 =>
          if x13 = (-1 : Int32) then
            some (x7.1, (0 : Int32))
          else
          if (x7.1.1 5) = 0 then
            (fX6_fail x7.1 (1 : Int32) (x7.1.1 2)).bind fun x16 =>
            some (x16, (0 : Int32))
          else
          some (x7.1, (0 : Int32))
        else
        fX6_qGoesOn_225 x7.1
      else
      fX6_qGoesOn_225 x5.1
    else
    fX6_qGoesOn_140 x3.1
  else
  fX6_qGoesOn_140 x1.1
def fX6_qGoesOn_0 : Nat → MS → Option (MS × Int32)
  | 0, _ => none
  | n + 1, σ =>
    if (σ.1 5) = 0 then
      (fX6_look σ).bind fun x2 =>
      if x2.2 = (41 : Int32) then
        (fX6_qBracket x2.1).bind fun x4 =>
        if x4 = (20 : Int32) then
          fX6_qGoesOn_43 (fun σ' => fX6_qGoesOn_0 n σ') x2.1
        else
        (fX6_qBracket x2.1).bind fun x6 =>
        if x6 = (23 : Int32) then
          fX6_qGoesOn_43 (fun σ' => fX6_qGoesOn_0 n σ') x2.1
        else
        (fX6_qBracket x2.1).bind fun x8 =>
        if x8 = (24 : Int32) then
          fX6_qGoesOn_43 (fun σ' => fX6_qGoesOn_0 n σ') x2.1
        else
        fX6_qGoesOn_122 x2.1
      else
      fX6_qGoesOn_122 x2.1
    else
    fX6_qGoesOn_122 σ
def fX6_qGoesOn (σ : MS) : Option (MS × Int32) :=
  fX6_qGoesOn_0 FU σ
set_option maxHeartbeats 4000000 in
theorem wX6_qGoesOn_115 {p : Program} {l : Launch} {e : Env} {s : State} {m : MethodId} {args : Array Value} {below : List Frame} {meth : Method} {c : Code} {G : mG} {b : Nat} (S : CallFix p m c cX6_qGoesOn 2 s args lw_all RX6) (hr : meth.sig.returnType = some .boolean) (hlk : meth.locks = false) (hK : mK G s) {x : MS × Int32} {k0 : MS → Option (MS × Int32)} (hk0 : ∀ σ, k0 σ = some x → mGo p l e rmX6_qGoesOn s m args below meth c G b (MQ below (mQi G b x) args s 0 0 (mB b)) 2 0 [(0, .ref b)] [] σ) : ∀ (σ : MS), fX6_qGoesOn_115 k0 σ = some x → mGo p l e rmX6_qGoesOn s m args below meth c G b (MQ below (mQi G b x) args s 0 0 (mB b)) 2 115 [(0, .ref b)] [] σ := by
  obtain ⟨hx, hb, hml, hown, hts⟩ := id S
  intro σ h H locs hM hS ls hl
  unfold fX6_qGoesOn_115 at h
  refine lv_aload_n hx hb dX6_qGoesOn_115 rfl (lv_at hl 0 rfl) ?_
  replace h := ob h
  obtain ⟨x1, hx1, h⟩ := h
  refine kX6_qEndsPart S hK hM hS hx1 ⟨Nat.le_of_ble_eq_true rfl, Nat.le_of_ble_eq_true rfl⟩ hl.1 (Nat.le_of_ble_eq_true rfl) dX6_qGoesOn_116 (fun H locs hM hS => ?_)
  refine lv_goto (tgt := 0) hx hb dX6_qGoesOn_119 (by decide) ?_
  exact hk0 x1 h _ _ hM hS _ (lv_sub hl [0] rfl)
set_option maxHeartbeats 4000000 in
theorem wX6_qGoesOn_112 {p : Program} {l : Launch} {e : Env} {s : State} {m : MethodId} {args : Array Value} {below : List Frame} {meth : Method} {c : Code} {G : mG} {b : Nat} (S : CallFix p m c cX6_qGoesOn 2 s args lw_all RX6) (hr : meth.sig.returnType = some .boolean) (hlk : meth.locks = false) (hK : mK G s) {x : MS × Int32} {k0 : MS → Option (MS × Int32)} (hk0 : ∀ σ, k0 σ = some x → mGo p l e rmX6_qGoesOn s m args below meth c G b (MQ below (mQi G b x) args s 0 0 (mB b)) 2 0 [(0, .ref b)] [] σ) : ∀ (σ : MS) (t1 : Int32), fX6_qGoesOn_112 k0 σ t1 = some x → mGo p l e rmX6_qGoesOn s m args below meth c G b (MQ below (mQi G b x) args s 0 0 (mB b)) 2 112 [(0, .ref b)] [.int t1, .ref b] σ := by
  obtain ⟨hx, hb, hml, hown, hts⟩ := id S
  intro σ t1 h H locs hM hS ls hl
  unfold fX6_qGoesOn_112 at h
  replace h := ob h
  obtain ⟨x1, hx1, h⟩ := h
  refine kX6_qCode S hK hM hS hx1 ⟨Nat.le_of_ble_eq_true rfl, Nat.le_of_ble_eq_true rfl⟩ hl.1 (Nat.le_of_ble_eq_true rfl) dX6_qGoesOn_112 (fun H locs hM hS => ?_)
  exact wX6_qGoesOn_115 S hr hlk hK hk0 x1 h _ _ hM hS _ (lv_sub hl [0] rfl)
set_option maxHeartbeats 4000000 in
theorem wX6_qGoesOn_43 {p : Program} {l : Launch} {e : Env} {s : State} {m : MethodId} {args : Array Value} {below : List Frame} {meth : Method} {c : Code} {G : mG} {b : Nat} (S : CallFix p m c cX6_qGoesOn 2 s args lw_all RX6) (hr : meth.sig.returnType = some .boolean) (hlk : meth.locks = false) (hK : mK G s) {x : MS × Int32} {k0 : MS → Option (MS × Int32)} (hk0 : ∀ σ, k0 σ = some x → mGo p l e rmX6_qGoesOn s m args below meth c G b (MQ below (mQi G b x) args s 0 0 (mB b)) 2 0 [(0, .ref b)] [] σ) : ∀ (σ : MS), fX6_qGoesOn_43 k0 σ = some x → mGo p l e rmX6_qGoesOn s m args below meth c G b (MQ below (mQi G b x) args s 0 0 (mB b)) 2 43 [(0, .ref b)] [] σ := by
  obtain ⟨hx, hb, hml, hown, hts⟩ := id S
  intro σ h H locs hM hS ls hl
  unfold fX6_qGoesOn_43 at h
  refine lv_aload_n hx hb dX6_qGoesOn_43 rfl (lv_at hl 0 rfl) ?_
  refine lv_dup hx hb dX6_qGoesOn_44 rfl ?_
  refine m_get S hK hM 2 (Nat.le_of_ble_eq_true rfl) q1734 (v := .int (σ.1 2)) rfl dX6_qGoesOn_45 ?_
  refine lv_iconst (v := (1 : Int32)) hx hb dX6_qGoesOn_48 (by decide) ?_
  refine lv_iadd hx hb dX6_qGoesOn_49 ?_
  refine m_putI S hK hM hS 2 (Nat.le_of_ble_eq_true rfl) rfl q1734 rfl (ty := .int) rfl rfl rfl dX6_qGoesOn_50 (fun H locs hM hS => ?_)
  refine lv_aload_n hx hb dX6_qGoesOn_53 rfl (lv_at hl 0 rfl) ?_
  replace h := ob h
  obtain ⟨x1, hx1, h⟩ := h
  refine kX6_qDropsToBracket S hK hM hS hx1 ⟨Nat.le_of_ble_eq_true rfl, Nat.le_of_ble_eq_true rfl⟩ hl.1 (Nat.le_of_ble_eq_true rfl) dX6_qGoesOn_54 (fun H locs hM hS => ?_)
  refine lv_aload_n hx hb dX6_qGoesOn_57 rfl (lv_at hl 0 rfl) ?_
  refine lv_dup hx hb dX6_qGoesOn_58 rfl ?_
  refine m_get S hK hM 94 (Nat.le_of_ble_eq_true rfl) q1826 (v := .int (x1.1 94)) rfl dX6_qGoesOn_59 ?_
  refine lv_iconst (v := (1 : Int32)) hx hb dX6_qGoesOn_62 (by decide) ?_
  refine lv_isub hx hb dX6_qGoesOn_63 ?_
  refine m_putI S hK hM hS 94 (Nat.le_of_ble_eq_true rfl) rfl q1826 rfl (ty := .int) rfl rfl rfl dX6_qGoesOn_64 (fun H locs hM hS => ?_)
  refine lv_aload_n hx hb dX6_qGoesOn_67 rfl (lv_at hl 0 rfl) ?_
  refine lv_dup hx hb dX6_qGoesOn_68 rfl ?_
  refine m_get S hK hM 95 (Nat.le_of_ble_eq_true rfl) q1827 (v := .int ((sI x1 94 ((x1.1 94) - (1 : Int32))).1 95)) rfl dX6_qGoesOn_69 ?_
  refine lv_iconst (v := (1 : Int32)) hx hb dX6_qGoesOn_72 (by decide) ?_
  refine lv_isub hx hb dX6_qGoesOn_73 ?_
  refine m_putI S hK hM hS 95 (Nat.le_of_ble_eq_true rfl) rfl q1827 rfl (ty := .int) rfl rfl rfl dX6_qGoesOn_74 (fun H locs hM hS => ?_)
  refine lv_aload_n hx hb dX6_qGoesOn_77 rfl (lv_at hl 0 rfl) ?_
  refine m_get S hK hM 93 (Nat.le_of_ble_eq_true rfl) q1825 (v := .ref (ma b 93)) rfl dX6_qGoesOn_78 ?_
  refine lv_aload_n hx hb dX6_qGoesOn_81 rfl (lv_at hl 0 rfl) ?_
  refine m_get S hK hM 94 (Nat.le_of_ble_eq_true rfl) q1826 (v := .int ((sI (sI x1 94 ((x1.1 94) - (1 : Int32))) 95 (((sI x1 94 ((x1.1 94) - (1 : Int32))).1 95) - (1 : Int32))).1 94)) rfl dX6_qGoesOn_82 ?_
  replace h := ob h
  obtain ⟨v2, hv2, h⟩ := h
  refine m_iald S hK hM 93 rfl hv2 dX6_qGoesOn_85 ?_
  refine lv_bipush (v := (20 : Int32)) hx hb dX6_qGoesOn_86 (by decide) ?_
  refine lv_icmp_eq (tgt := 115) hx hb dX6_qGoesOn_88 (by decide) (fun c3 => ?_) (fun c3 => ?_)
  · replace h := it c3 h
    exact wX6_qGoesOn_115 S hr hlk hK hk0 (sI (sI x1 94 ((x1.1 94) - (1 : Int32))) 95 (((sI x1 94 ((x1.1 94) - (1 : Int32))).1 95) - (1 : Int32))) h _ _ hM hS _ (lv_sub hl [0] rfl)
  replace h := ie c3 h
  refine lv_aload_n hx hb dX6_qGoesOn_91 rfl (lv_at hl 0 rfl) ?_
  refine lv_aload_n hx hb dX6_qGoesOn_92 rfl (lv_at hl 0 rfl) ?_
  refine m_get S hK hM 93 (Nat.le_of_ble_eq_true rfl) q1825 (v := .ref (ma b 93)) rfl dX6_qGoesOn_93 ?_
  refine lv_aload_n hx hb dX6_qGoesOn_96 rfl (lv_at hl 0 rfl) ?_
  refine m_get S hK hM 94 (Nat.le_of_ble_eq_true rfl) q1826 (v := .int ((sI (sI x1 94 ((x1.1 94) - (1 : Int32))) 95 (((sI x1 94 ((x1.1 94) - (1 : Int32))).1 95) - (1 : Int32))).1 94)) rfl dX6_qGoesOn_97 ?_
  replace h := ob h
  obtain ⟨v4, hv4, h⟩ := h
  refine m_iald S hK hM 93 rfl hv4 dX6_qGoesOn_100 ?_
  refine lv_bipush (v := (23 : Int32)) hx hb dX6_qGoesOn_101 (by decide) ?_
  refine lv_icmp_ne (tgt := 110) hx hb dX6_qGoesOn_103 (by decide) (fun c5 => ?_) (fun c5 => ?_)
  · replace h := ie c5 h
    refine lv_bipush (v := (6 : Int32)) hx hb dX6_qGoesOn_110 (by decide) ?_
    exact wX6_qGoesOn_112 S hr hlk hK hk0 (sI (sI x1 94 ((x1.1 94) - (1 : Int32))) 95 (((sI x1 94 ((x1.1 94) - (1 : Int32))).1 95) - (1 : Int32))) (6 : Int32) h _ _ hM hS _ (lv_sub hl [0] rfl)
  replace h := it c5 h
  refine lv_iconst (v := (5 : Int32)) hx hb dX6_qGoesOn_106 (by decide) ?_
  refine lv_goto (tgt := 112) hx hb dX6_qGoesOn_107 (by decide) ?_
  exact wX6_qGoesOn_112 S hr hlk hK hk0 (sI (sI x1 94 ((x1.1 94) - (1 : Int32))) 95 (((sI x1 94 ((x1.1 94) - (1 : Int32))).1 95) - (1 : Int32))) (5 : Int32) h _ _ hM hS _ (lv_sub hl [0] rfl)
set_option maxHeartbeats 4000000 in
theorem wX6_qGoesOn_178 {p : Program} {l : Launch} {e : Env} {s : State} {m : MethodId} {args : Array Value} {below : List Frame} {meth : Method} {c : Code} {G : mG} {b : Nat} (S : CallFix p m c cX6_qGoesOn 2 s args lw_all RX6) (hr : meth.sig.returnType = some .boolean) (hlk : meth.locks = false) (hK : mK G s) {x : MS × Int32} {k162 : MS → Int32 → Option (MS × Int32)} (hk162 : ∀ σ a1, k162 σ a1 = some x → mGo p l e rmX6_qGoesOn s m args below meth c G b (MQ below (mQi G b x) args s 0 0 (mB b)) 2 162 [(0, .ref b), (1, .int a1)] [] σ) : ∀ (σ : MS) (a1 : Int32), fX6_qGoesOn_178 k162 σ a1 = some x → mGo p l e rmX6_qGoesOn s m args below meth c G b (MQ below (mQi G b x) args s 0 0 (mB b)) 2 178 [(0, .ref b), (1, .int a1)] [] σ := by
  obtain ⟨hx, hb, hml, hown, hts⟩ := id S
  intro σ a1 h H locs hM hS ls hl
  unfold fX6_qGoesOn_178 at h
  refine lv_aload_n hx hb dX6_qGoesOn_178 rfl (lv_at hl 0 rfl) ?_
  replace h := ob h
  obtain ⟨x1, hx1, h⟩ := h
  refine kX6_qDrops S hK hM hS hx1 ⟨Nat.le_of_ble_eq_true rfl, Nat.le_of_ble_eq_true rfl⟩ hl.1 (Nat.le_of_ble_eq_true rfl) dX6_qGoesOn_179 (fun H locs hM hS => ?_)
  refine lv_goto (tgt := 162) hx hb dX6_qGoesOn_182 (by decide) ?_
  exact hk162 x1 a1 h _ _ hM hS _ (lv_sub hl [0, 1] rfl)
set_option maxHeartbeats 4000000 in
theorem wX6_qGoesOn_162 {p : Program} {l : Launch} {e : Env} {s : State} {m : MethodId} {args : Array Value} {below : List Frame} {meth : Method} {c : Code} {G : mG} {b : Nat} (S : CallFix p m c cX6_qGoesOn 2 s args lw_all RX6) (hr : meth.sig.returnType = some .boolean) (hlk : meth.locks = false) (hK : mK G s) {x : MS × Int32} : ∀ (n : Nat) (σ : MS) (a1 : Int32), fX6_qGoesOn_162 n σ a1 = some x → mGo p l e rmX6_qGoesOn s m args below meth c G b (MQ below (mQi G b x) args s 0 0 (mB b)) 2 162 [(0, .ref b), (1, .int a1)] [] σ := by
  obtain ⟨hx, hb, hml, hown, hts⟩ := id S
  intro n
  induction n with
  | zero => intro σ a1 h; cases h
  | succ n ih =>
    intro σ a1 h H locs hM hS ls hl
    rw [fX6_qGoesOn_162] at h
    refine lv_aload_n hx hb dX6_qGoesOn_162 rfl (lv_at hl 0 rfl) ?_
    refine lv_iconst (v := (3 : Int32)) hx hb dX6_qGoesOn_163 (by decide) ?_
    replace h := ob h
    obtain ⟨x1, hx1, h⟩ := h
    refine kX6_qIsOn S hK hM hS hx1 ⟨Nat.le_of_ble_eq_true rfl, Nat.le_of_ble_eq_true rfl⟩ hl.1 (Nat.le_of_ble_eq_true rfl) dX6_qGoesOn_164 (fun H locs hM hS => ?_)
    refine lv_if_ne (tgt := 178) hx hb dX6_qGoesOn_167 (by decide) (fun c2 => ?_) (fun c2 => ?_)
    · replace h := ie c2 h
      exact wX6_qGoesOn_178 S hr hlk hK ih σ a1 h _ _ hM hS _ (lv_sub hl [0, 1] rfl)
    replace h := it c2 h
    refine lv_aload_n hx hb dX6_qGoesOn_170 rfl (lv_at hl 0 rfl) ?_
    refine lv_iconst (v := (4 : Int32)) hx hb dX6_qGoesOn_171 (by decide) ?_
    replace h := ob h
    obtain ⟨x3, hx3, h⟩ := h
    refine kX6_qIsOn S hK hM hS hx3 ⟨Nat.le_of_ble_eq_true rfl, Nat.le_of_ble_eq_true rfl⟩ hl.1 (Nat.le_of_ble_eq_true rfl) dX6_qGoesOn_172 (fun H locs hM hS => ?_)
    refine lv_if_eq (tgt := 185) hx hb dX6_qGoesOn_175 (by decide) (fun c4 => ?_) (fun c4 => ?_)
    rotate_left 1
    · replace h := ie c4 h
      exact wX6_qGoesOn_178 S hr hlk hK ih σ a1 h _ _ hM hS _ (lv_sub hl [0, 1] rfl)
    replace h := it c4 h
    refine lv_aload_n hx hb dX6_qGoesOn_185 rfl (lv_at hl 0 rfl) ?_
    refine m_get S hK hM 93 (Nat.le_of_ble_eq_true rfl) q1825 (v := .ref (ma b 93)) rfl dX6_qGoesOn_186 ?_
    refine lv_aload_n hx hb dX6_qGoesOn_189 rfl (lv_at hl 0 rfl) ?_
    refine m_get S hK hM 94 (Nat.le_of_ble_eq_true rfl) q1826 (v := .int (σ.1 94)) rfl dX6_qGoesOn_190 ?_
    refine lv_iload_n hx hb dX6_qGoesOn_193 rfl (lv_at hl 1 rfl) ?_
    replace h := ob h
    obtain ⟨σ5, hσ5, h⟩ := h
    refine m_iast S hK hM hS 93 rfl hσ5 dX6_qGoesOn_194 (fun H locs hM hS => ?_)
    refine lv_aload_n hx hb dX6_qGoesOn_195 rfl (lv_at hl 0 rfl) ?_
    refine lv_dup hx hb dX6_qGoesOn_196 rfl ?_
    refine m_get S hK hM 94 (Nat.le_of_ble_eq_true rfl) q1826 (v := .int (σ5.1 94)) rfl dX6_qGoesOn_197 ?_
    refine lv_iconst (v := (1 : Int32)) hx hb dX6_qGoesOn_200 (by decide) ?_
    refine lv_iadd hx hb dX6_qGoesOn_201 ?_
    refine m_putI S hK hM hS 94 (Nat.le_of_ble_eq_true rfl) rfl q1826 rfl (ty := .int) rfl rfl rfl dX6_qGoesOn_202 (fun H locs hM hS => ?_)
    refine lv_iconst (v := (1 : Int32)) hx hb dX6_qGoesOn_205 (by decide) ?_
    exact m_iret S hr hlk rfl hM hS h dX6_qGoesOn_206
set_option maxHeartbeats 4000000 in
theorem wX6_qGoesOn_161 {p : Program} {l : Launch} {e : Env} {s : State} {m : MethodId} {args : Array Value} {below : List Frame} {meth : Method} {c : Code} {G : mG} {b : Nat} (S : CallFix p m c cX6_qGoesOn 2 s args lw_all RX6) (hr : meth.sig.returnType = some .boolean) (hlk : meth.locks = false) (hK : mK G s) {x : MS × Int32} : ∀ (σ : MS) (t0 : Int32), fX6_qGoesOn_161 σ t0 = some x → mGo p l e rmX6_qGoesOn s m args below meth c G b (MQ below (mQi G b x) args s 0 0 (mB b)) 2 161 [(0, .ref b)] [.int t0] σ := by
  obtain ⟨hx, hb, hml, hown, hts⟩ := id S
  intro σ t0 h H locs hM hS ls hl
  unfold fX6_qGoesOn_161 at h
  refine lv_istore_n (lv' := [(1, .int t0), (0, .ref b)]) hx hb dX6_qGoesOn_161 rfl hl (by decide) rfl (fun ls hl => ?_)
  exact wX6_qGoesOn_162 S hr hlk hK FU σ t0 h _ _ hM hS _ (lv_sub hl [1, 0] rfl)
set_option maxHeartbeats 4000000 in
theorem wX6_qGoesOn_140 {p : Program} {l : Launch} {e : Env} {s : State} {m : MethodId} {args : Array Value} {below : List Frame} {meth : Method} {c : Code} {G : mG} {b : Nat} (S : CallFix p m c cX6_qGoesOn 2 s args lw_all RX6) (hr : meth.sig.returnType = some .boolean) (hlk : meth.locks = false) (hK : mK G s) {x : MS × Int32} : ∀ (σ : MS), fX6_qGoesOn_140 σ = some x → mGo p l e rmX6_qGoesOn s m args below meth c G b (MQ below (mQi G b x) args s 0 0 (mB b)) 2 140 [(0, .ref b)] [] σ := by
  obtain ⟨hx, hb, hml, hown, hts⟩ := id S
  intro σ h H locs hM hS ls hl
  unfold fX6_qGoesOn_140 at h
  refine lv_aload_n hx hb dX6_qGoesOn_140 rfl (lv_at hl 0 rfl) ?_
  refine m_get S hK hM 0 (Nat.le_of_ble_eq_true rfl) q1732 (v := .ref (ma b 0)) rfl dX6_qGoesOn_141 ?_
  refine lv_aload_n hx hb dX6_qGoesOn_144 rfl (lv_at hl 0 rfl) ?_
  refine m_get S hK hM 2 (Nat.le_of_ble_eq_true rfl) q1734 (v := .int (σ.1 2)) rfl dX6_qGoesOn_145 ?_
  refine lv_iconst (v := (1 : Int32)) hx hb dX6_qGoesOn_148 (by decide) ?_
  refine lv_isub hx hb dX6_qGoesOn_149 ?_
  replace h := ob h
  obtain ⟨v1, hv1, h⟩ := h
  refine m_iald S hK hM 0 rfl hv1 dX6_qGoesOn_150 ?_
  refine lv_bipush (v := (42 : Int32)) hx hb dX6_qGoesOn_151 (by decide) ?_
  refine lv_icmp_ne (tgt := 160) hx hb dX6_qGoesOn_153 (by decide) (fun c2 => ?_) (fun c2 => ?_)
  · replace h := ie c2 h
    refine lv_iconst (v := (4 : Int32)) hx hb dX6_qGoesOn_160 (by decide) ?_
    exact wX6_qGoesOn_161 S hr hlk hK σ (4 : Int32) h _ _ hM hS _ (lv_sub hl [0] rfl)
  replace h := it c2 h
  refine lv_iconst (v := (3 : Int32)) hx hb dX6_qGoesOn_156 (by decide) ?_
  refine lv_goto (tgt := 161) hx hb dX6_qGoesOn_157 (by decide) ?_
  exact wX6_qGoesOn_161 S hr hlk hK σ (3 : Int32) h _ _ hM hS _ (lv_sub hl [0] rfl)
set_option maxHeartbeats 4000000 in
theorem wX6_qGoesOn_279 {p : Program} {l : Launch} {e : Env} {s : State} {m : MethodId} {args : Array Value} {below : List Frame} {meth : Method} {c : Code} {G : mG} {b : Nat} (S : CallFix p m c cX6_qGoesOn 2 s args lw_all RX6) (hr : meth.sig.returnType = some .boolean) (hlk : meth.locks = false) (hK : mK G s) {x : MS × Int32} {k247 : MS → Int32 → Option (MS × Int32)} (hk247 : ∀ σ a1, k247 σ a1 = some x → mGo p l e rmX6_qGoesOn s m args below meth c G b (MQ below (mQi G b x) args s 0 0 (mB b)) 2 247 [(0, .ref b), (1, .int a1)] [] σ) : ∀ (σ : MS) (a1 : Int32), fX6_qGoesOn_279 k247 σ a1 = some x → mGo p l e rmX6_qGoesOn s m args below meth c G b (MQ below (mQi G b x) args s 0 0 (mB b)) 2 279 [(0, .ref b), (1, .int a1)] [] σ := by
  obtain ⟨hx, hb, hml, hown, hts⟩ := id S
  intro σ a1 h H locs hM hS ls hl
  unfold fX6_qGoesOn_279 at h
  refine lv_aload_n hx hb dX6_qGoesOn_279 rfl (lv_at hl 0 rfl) ?_
  replace h := ob h
  obtain ⟨x1, hx1, h⟩ := h
  refine kX6_qDrops S hK hM hS hx1 ⟨Nat.le_of_ble_eq_true rfl, Nat.le_of_ble_eq_true rfl⟩ hl.1 (Nat.le_of_ble_eq_true rfl) dX6_qGoesOn_280 (fun H locs hM hS => ?_)
  refine lv_goto (tgt := 247) hx hb dX6_qGoesOn_283 (by decide) ?_
  exact hk247 x1 a1 h _ _ hM hS _ (lv_sub hl [0, 1] rfl)
set_option maxHeartbeats 4000000 in
theorem wX6_qGoesOn_247 {p : Program} {l : Launch} {e : Env} {s : State} {m : MethodId} {args : Array Value} {below : List Frame} {meth : Method} {c : Code} {G : mG} {b : Nat} (S : CallFix p m c cX6_qGoesOn 2 s args lw_all RX6) (hr : meth.sig.returnType = some .boolean) (hlk : meth.locks = false) (hK : mK G s) {x : MS × Int32} : ∀ (n : Nat) (σ : MS) (a1 : Int32), fX6_qGoesOn_247 n σ a1 = some x → mGo p l e rmX6_qGoesOn s m args below meth c G b (MQ below (mQi G b x) args s 0 0 (mB b)) 2 247 [(0, .ref b), (1, .int a1)] [] σ := by
  obtain ⟨hx, hb, hml, hown, hts⟩ := id S
  intro n
  induction n with
  | zero => intro σ a1 h; cases h
  | succ n ih =>
    intro σ a1 h H locs hM hS ls hl
    rw [fX6_qGoesOn_247] at h
    refine lv_aload_n hx hb dX6_qGoesOn_247 rfl (lv_at hl 0 rfl) ?_
    refine lv_iconst (v := (3 : Int32)) hx hb dX6_qGoesOn_248 (by decide) ?_
    replace h := ob h
    obtain ⟨x1, hx1, h⟩ := h
    refine kX6_qIsOn S hK hM hS hx1 ⟨Nat.le_of_ble_eq_true rfl, Nat.le_of_ble_eq_true rfl⟩ hl.1 (Nat.le_of_ble_eq_true rfl) dX6_qGoesOn_249 (fun H locs hM hS => ?_)
    refine lv_if_ne (tgt := 279) hx hb dX6_qGoesOn_252 (by decide) (fun c2 => ?_) (fun c2 => ?_)
    · replace h := ie c2 h
      exact wX6_qGoesOn_279 S hr hlk hK ih σ a1 h _ _ hM hS _ (lv_sub hl [0, 1] rfl)
    replace h := it c2 h
    refine lv_aload_n hx hb dX6_qGoesOn_255 rfl (lv_at hl 0 rfl) ?_
    refine lv_iconst (v := (4 : Int32)) hx hb dX6_qGoesOn_256 (by decide) ?_
    replace h := ob h
    obtain ⟨x3, hx3, h⟩ := h
    refine kX6_qIsOn S hK hM hS hx3 ⟨Nat.le_of_ble_eq_true rfl, Nat.le_of_ble_eq_true rfl⟩ hl.1 (Nat.le_of_ble_eq_true rfl) dX6_qGoesOn_257 (fun H locs hM hS => ?_)
    refine lv_if_ne (tgt := 279) hx hb dX6_qGoesOn_260 (by decide) (fun c4 => ?_) (fun c4 => ?_)
    · replace h := ie c4 h
      exact wX6_qGoesOn_279 S hr hlk hK ih σ a1 h _ _ hM hS _ (lv_sub hl [0, 1] rfl)
    replace h := it c4 h
    refine lv_aload_n hx hb dX6_qGoesOn_263 rfl (lv_at hl 0 rfl) ?_
    refine lv_iconst (v := (1 : Int32)) hx hb dX6_qGoesOn_264 (by decide) ?_
    replace h := ob h
    obtain ⟨x5, hx5, h⟩ := h
    refine kX6_qIsOn S hK hM hS hx5 ⟨Nat.le_of_ble_eq_true rfl, Nat.le_of_ble_eq_true rfl⟩ hl.1 (Nat.le_of_ble_eq_true rfl) dX6_qGoesOn_265 (fun H locs hM hS => ?_)
    refine lv_if_ne (tgt := 279) hx hb dX6_qGoesOn_268 (by decide) (fun c6 => ?_) (fun c6 => ?_)
    · replace h := ie c6 h
      exact wX6_qGoesOn_279 S hr hlk hK ih σ a1 h _ _ hM hS _ (lv_sub hl [0, 1] rfl)
    replace h := it c6 h
    refine lv_aload_n hx hb dX6_qGoesOn_271 rfl (lv_at hl 0 rfl) ?_
    refine lv_iconst (v := (2 : Int32)) hx hb dX6_qGoesOn_272 (by decide) ?_
    replace h := ob h
    obtain ⟨x7, hx7, h⟩ := h
    refine kX6_qIsOn S hK hM hS hx7 ⟨Nat.le_of_ble_eq_true rfl, Nat.le_of_ble_eq_true rfl⟩ hl.1 (Nat.le_of_ble_eq_true rfl) dX6_qGoesOn_273 (fun H locs hM hS => ?_)
    refine lv_if_eq (tgt := 286) hx hb dX6_qGoesOn_276 (by decide) (fun c8 => ?_) (fun c8 => ?_)
    rotate_left 1
    · replace h := ie c8 h
      exact wX6_qGoesOn_279 S hr hlk hK ih σ a1 h _ _ hM hS _ (lv_sub hl [0, 1] rfl)
    replace h := it c8 h
    refine lv_aload_n hx hb dX6_qGoesOn_286 rfl (lv_at hl 0 rfl) ?_
    refine m_get S hK hM 93 (Nat.le_of_ble_eq_true rfl) q1825 (v := .ref (ma b 93)) rfl dX6_qGoesOn_287 ?_
    refine lv_aload_n hx hb dX6_qGoesOn_290 rfl (lv_at hl 0 rfl) ?_
    refine m_get S hK hM 94 (Nat.le_of_ble_eq_true rfl) q1826 (v := .int (σ.1 94)) rfl dX6_qGoesOn_291 ?_
    refine lv_iload_n hx hb dX6_qGoesOn_294 rfl (lv_at hl 1 rfl) ?_
    replace h := ob h
    obtain ⟨σ9, hσ9, h⟩ := h
    refine m_iast S hK hM hS 93 rfl hσ9 dX6_qGoesOn_295 (fun H locs hM hS => ?_)
    refine lv_aload_n hx hb dX6_qGoesOn_296 rfl (lv_at hl 0 rfl) ?_
    refine lv_dup hx hb dX6_qGoesOn_297 rfl ?_
    refine m_get S hK hM 94 (Nat.le_of_ble_eq_true rfl) q1826 (v := .int (σ9.1 94)) rfl dX6_qGoesOn_298 ?_
    refine lv_iconst (v := (1 : Int32)) hx hb dX6_qGoesOn_301 (by decide) ?_
    refine lv_iadd hx hb dX6_qGoesOn_302 ?_
    refine m_putI S hK hM hS 94 (Nat.le_of_ble_eq_true rfl) rfl q1826 rfl (ty := .int) rfl rfl rfl dX6_qGoesOn_303 (fun H locs hM hS => ?_)
    refine lv_iconst (v := (1 : Int32)) hx hb dX6_qGoesOn_306 (by decide) ?_
    exact m_iret S hr hlk rfl hM hS h dX6_qGoesOn_307
set_option maxHeartbeats 4000000 in
theorem wX6_qGoesOn_246 {p : Program} {l : Launch} {e : Env} {s : State} {m : MethodId} {args : Array Value} {below : List Frame} {meth : Method} {c : Code} {G : mG} {b : Nat} (S : CallFix p m c cX6_qGoesOn 2 s args lw_all RX6) (hr : meth.sig.returnType = some .boolean) (hlk : meth.locks = false) (hK : mK G s) {x : MS × Int32} : ∀ (σ : MS) (t0 : Int32), fX6_qGoesOn_246 σ t0 = some x → mGo p l e rmX6_qGoesOn s m args below meth c G b (MQ below (mQi G b x) args s 0 0 (mB b)) 2 246 [(0, .ref b)] [.int t0] σ := by
  obtain ⟨hx, hb, hml, hown, hts⟩ := id S
  intro σ t0 h H locs hM hS ls hl
  unfold fX6_qGoesOn_246 at h
  refine lv_istore_n (lv' := [(1, .int t0), (0, .ref b)]) hx hb dX6_qGoesOn_246 rfl hl (by decide) rfl (fun ls hl => ?_)
  exact wX6_qGoesOn_247 S hr hlk hK FU σ t0 h _ _ hM hS _ (lv_sub hl [1, 0] rfl)
set_option maxHeartbeats 4000000 in
theorem wX6_qGoesOn_225 {p : Program} {l : Launch} {e : Env} {s : State} {m : MethodId} {args : Array Value} {below : List Frame} {meth : Method} {c : Code} {G : mG} {b : Nat} (S : CallFix p m c cX6_qGoesOn 2 s args lw_all RX6) (hr : meth.sig.returnType = some .boolean) (hlk : meth.locks = false) (hK : mK G s) {x : MS × Int32} : ∀ (σ : MS), fX6_qGoesOn_225 σ = some x → mGo p l e rmX6_qGoesOn s m args below meth c G b (MQ below (mQi G b x) args s 0 0 (mB b)) 2 225 [(0, .ref b)] [] σ := by
  obtain ⟨hx, hb, hml, hown, hts⟩ := id S
  intro σ h H locs hM hS ls hl
  unfold fX6_qGoesOn_225 at h
  refine lv_aload_n hx hb dX6_qGoesOn_225 rfl (lv_at hl 0 rfl) ?_
  refine m_get S hK hM 0 (Nat.le_of_ble_eq_true rfl) q1732 (v := .ref (ma b 0)) rfl dX6_qGoesOn_226 ?_
  refine lv_aload_n hx hb dX6_qGoesOn_229 rfl (lv_at hl 0 rfl) ?_
  refine m_get S hK hM 2 (Nat.le_of_ble_eq_true rfl) q1734 (v := .int (σ.1 2)) rfl dX6_qGoesOn_230 ?_
  refine lv_iconst (v := (1 : Int32)) hx hb dX6_qGoesOn_233 (by decide) ?_
  refine lv_isub hx hb dX6_qGoesOn_234 ?_
  replace h := ob h
  obtain ⟨v1, hv1, h⟩ := h
  refine m_iald S hK hM 0 rfl hv1 dX6_qGoesOn_235 ?_
  refine lv_bipush (v := (43 : Int32)) hx hb dX6_qGoesOn_236 (by decide) ?_
  refine lv_icmp_ne (tgt := 245) hx hb dX6_qGoesOn_238 (by decide) (fun c2 => ?_) (fun c2 => ?_)
  · replace h := ie c2 h
    refine lv_iconst (v := (2 : Int32)) hx hb dX6_qGoesOn_245 (by decide) ?_
    exact wX6_qGoesOn_246 S hr hlk hK σ (2 : Int32) h _ _ hM hS _ (lv_sub hl [0] rfl)
  replace h := it c2 h
  refine lv_iconst (v := (1 : Int32)) hx hb dX6_qGoesOn_241 (by decide) ?_
  refine lv_goto (tgt := 246) hx hb dX6_qGoesOn_242 (by decide) ?_
  exact wX6_qGoesOn_246 S hr hlk hK σ (1 : Int32) h _ _ hM hS _ (lv_sub hl [0] rfl)
set_option maxHeartbeats 4000000 in
theorem wX6_qGoesOn_326 {p : Program} {l : Launch} {e : Env} {s : State} {m : MethodId} {args : Array Value} {below : List Frame} {meth : Method} {c : Code} {G : mG} {b : Nat} (S : CallFix p m c cX6_qGoesOn 2 s args lw_all RX6) (hr : meth.sig.returnType = some .boolean) (hlk : meth.locks = false) (hK : mK G s) {x : MS × Int32} : ∀ (σ : MS), fX6_qGoesOn_326 σ = some x → mGo p l e rmX6_qGoesOn s m args below meth c G b (MQ below (mQi G b x) args s 0 0 (mB b)) 2 326 [(0, .ref b)] [] σ := by
  obtain ⟨hx, hb, hml, hown, hts⟩ := id S
  intro σ h H locs hM hS ls hl
  unfold fX6_qGoesOn_326 at h
  refine lv_aload_n hx hb dX6_qGoesOn_326 rfl (lv_at hl 0 rfl) ?_
  refine lv_bipush (v := (44 : Int32)) hx hb dX6_qGoesOn_327 (by decide) ?_
  replace h := ob h
  obtain ⟨x1, hx1, h⟩ := h
  refine kX6_asksSign S hK hM hS hx1 ⟨Nat.le_of_ble_eq_true rfl, Nat.le_of_ble_eq_true rfl⟩ hl.1 (Nat.le_of_ble_eq_true rfl) dX6_qGoesOn_329 (fun H locs hM hS => ?_)
  refine lv_aload_n hx hb dX6_qGoesOn_332 rfl (lv_at hl 0 rfl) ?_
  refine m_get S hK hM 5 (Nat.le_of_ble_eq_true rfl) q1737 (v := .int (x1.1 5)) rfl dX6_qGoesOn_333 ?_
  refine lv_if_eq (tgt := 341) hx hb dX6_qGoesOn_336 (by decide) (fun c2 => ?_) (fun c2 => ?_)
  rotate_left 1
  · replace h := ie c2 h
    refine lv_iconst (v := (0 : Int32)) hx hb dX6_qGoesOn_339 (by decide) ?_
    exact m_iret S hr hlk rfl hM hS h dX6_qGoesOn_340
  replace h := it c2 h
  refine lv_aload_n hx hb dX6_qGoesOn_341 rfl (lv_at hl 0 rfl) ?_
  replace h := ob h
  obtain ⟨x3, hx3, h⟩ := h
  refine kX6_qDropsToBracket S hK hM hS hx3 ⟨Nat.le_of_ble_eq_true rfl, Nat.le_of_ble_eq_true rfl⟩ hl.1 (Nat.le_of_ble_eq_true rfl) dX6_qGoesOn_342 (fun H locs hM hS => ?_)
  refine lv_aload_n hx hb dX6_qGoesOn_345 rfl (lv_at hl 0 rfl) ?_
  refine m_get S hK hM 93 (Nat.le_of_ble_eq_true rfl) q1825 (v := .ref (ma b 93)) rfl dX6_qGoesOn_346 ?_
  refine lv_aload_n hx hb dX6_qGoesOn_349 rfl (lv_at hl 0 rfl) ?_
  refine m_get S hK hM 94 (Nat.le_of_ble_eq_true rfl) q1826 (v := .int (x3.1 94)) rfl dX6_qGoesOn_350 ?_
  refine lv_iconst (v := (1 : Int32)) hx hb dX6_qGoesOn_353 (by decide) ?_
  refine lv_isub hx hb dX6_qGoesOn_354 ?_
  refine lv_dup2_11 hx hb dX6_qGoesOn_355 rfl rfl ?_
  replace h := ob h
  obtain ⟨v4, hv4, h⟩ := h
  refine m_iald S hK hM 93 rfl hv4 dX6_qGoesOn_356 ?_
  refine lv_iconst (v := (2 : Int32)) hx hb dX6_qGoesOn_357 (by decide) ?_
  refine lv_iadd hx hb dX6_qGoesOn_358 ?_
  replace h := ob h
  obtain ⟨σ5, hσ5, h⟩ := h
  refine m_iast S hK hM hS 93 rfl hσ5 dX6_qGoesOn_359 (fun H locs hM hS => ?_)
  refine lv_iconst (v := (1 : Int32)) hx hb dX6_qGoesOn_360 (by decide) ?_
  exact m_iret S hr hlk rfl hM hS h dX6_qGoesOn_361
set_option maxHeartbeats 4000000 in
theorem wX6_qGoesOn_122 {p : Program} {l : Launch} {e : Env} {s : State} {m : MethodId} {args : Array Value} {below : List Frame} {meth : Method} {c : Code} {G : mG} {b : Nat} (S : CallFix p m c cX6_qGoesOn 2 s args lw_all RX6) (hr : meth.sig.returnType = some .boolean) (hlk : meth.locks = false) (hK : mK G s) {x : MS × Int32} : ∀ (σ : MS), fX6_qGoesOn_122 σ = some x → mGo p l e rmX6_qGoesOn s m args below meth c G b (MQ below (mQi G b x) args s 0 0 (mB b)) 2 122 [(0, .ref b)] [] σ := by
  obtain ⟨hx, hb, hml, hown, hts⟩ := id S
  intro σ h H locs hM hS ls hl
  unfold fX6_qGoesOn_122 at h
  refine lv_aload_n hx hb dX6_qGoesOn_122 rfl (lv_at hl 0 rfl) ?_
  refine lv_bipush (v := (42 : Int32)) hx hb dX6_qGoesOn_123 (by decide) ?_
  replace h := ob h
  obtain ⟨x1, hx1, h⟩ := h
  refine kX6_takesSign S hK hM hS hx1 ⟨Nat.le_of_ble_eq_true rfl, Nat.le_of_ble_eq_true rfl⟩ hl.1 (Nat.le_of_ble_eq_true rfl) dX6_qGoesOn_125 (fun H locs hM hS => ?_)
  refine lv_if_ne (tgt := 140) hx hb dX6_qGoesOn_128 (by decide) (fun c2 => ?_) (fun c2 => ?_)
  · replace h := ie c2 h
    exact wX6_qGoesOn_140 S hr hlk hK x1.1 h _ _ hM hS _ (lv_sub hl [0] rfl)
  replace h := it c2 h
  refine lv_aload_n hx hb dX6_qGoesOn_131 rfl (lv_at hl 0 rfl) ?_
  refine lv_bipush (v := (47 : Int32)) hx hb dX6_qGoesOn_132 (by decide) ?_
  replace h := ob h
  obtain ⟨x3, hx3, h⟩ := h
  refine kX6_takesSign S hK hM hS hx3 ⟨Nat.le_of_ble_eq_true rfl, Nat.le_of_ble_eq_true rfl⟩ hl.1 (Nat.le_of_ble_eq_true rfl) dX6_qGoesOn_134 (fun H locs hM hS => ?_)
  refine lv_if_eq (tgt := 207) hx hb dX6_qGoesOn_137 (by decide) (fun c4 => ?_) (fun c4 => ?_)
  rotate_left 1
  · replace h := ie c4 h
    exact wX6_qGoesOn_140 S hr hlk hK x3.1 h _ _ hM hS _ (lv_sub hl [0] rfl)
  replace h := it c4 h
  refine lv_aload_n hx hb dX6_qGoesOn_207 rfl (lv_at hl 0 rfl) ?_
  refine lv_bipush (v := (43 : Int32)) hx hb dX6_qGoesOn_208 (by decide) ?_
  replace h := ob h
  obtain ⟨x5, hx5, h⟩ := h
  refine kX6_takesSign S hK hM hS hx5 ⟨Nat.le_of_ble_eq_true rfl, Nat.le_of_ble_eq_true rfl⟩ hl.1 (Nat.le_of_ble_eq_true rfl) dX6_qGoesOn_210 (fun H locs hM hS => ?_)
  refine lv_if_ne (tgt := 225) hx hb dX6_qGoesOn_213 (by decide) (fun c6 => ?_) (fun c6 => ?_)
  · replace h := ie c6 h
    exact wX6_qGoesOn_225 S hr hlk hK x5.1 h _ _ hM hS _ (lv_sub hl [0] rfl)
  replace h := it c6 h
  refine lv_aload_n hx hb dX6_qGoesOn_216 rfl (lv_at hl 0 rfl) ?_
  refine lv_bipush (v := (45 : Int32)) hx hb dX6_qGoesOn_217 (by decide) ?_
  replace h := ob h
  obtain ⟨x7, hx7, h⟩ := h
  refine kX6_takesSign S hK hM hS hx7 ⟨Nat.le_of_ble_eq_true rfl, Nat.le_of_ble_eq_true rfl⟩ hl.1 (Nat.le_of_ble_eq_true rfl) dX6_qGoesOn_219 (fun H locs hM hS => ?_)
  refine lv_if_eq (tgt := 308) hx hb dX6_qGoesOn_222 (by decide) (fun c8 => ?_) (fun c8 => ?_)
  rotate_left 1
  · replace h := ie c8 h
    exact wX6_qGoesOn_225 S hr hlk hK x7.1 h _ _ hM hS _ (lv_sub hl [0] rfl)
  replace h := it c8 h
  refine lv_aload_n hx hb dX6_qGoesOn_308 rfl (lv_at hl 0 rfl) ?_
  replace h := ob h
  obtain ⟨x9, hx9, h⟩ := h
  refine kX6_qBracket S hK hM hS hx9 ⟨Nat.le_of_ble_eq_true rfl, Nat.le_of_ble_eq_true rfl⟩ hl.1 (Nat.le_of_ble_eq_true rfl) dX6_qGoesOn_309 (fun H locs hM hS => ?_)
  refine lv_bipush (v := (21 : Int32)) hx hb dX6_qGoesOn_312 (by decide) ?_
  refine lv_icmp_eq (tgt := 326) hx hb dX6_qGoesOn_314 (by decide) (fun c10 => ?_) (fun c10 => ?_)
  · replace h := it c10 h
    exact wX6_qGoesOn_326 S hr hlk hK x7.1 h _ _ hM hS _ (lv_sub hl [0] rfl)
  replace h := ie c10 h
  refine lv_aload_n hx hb dX6_qGoesOn_317 rfl (lv_at hl 0 rfl) ?_
  replace h := ob h
  obtain ⟨x11, hx11, h⟩ := h
  refine kX6_qBracket S hK hM hS hx11 ⟨Nat.le_of_ble_eq_true rfl, Nat.le_of_ble_eq_true rfl⟩ hl.1 (Nat.le_of_ble_eq_true rfl) dX6_qGoesOn_318 (fun H locs hM hS => ?_)
  refine lv_bipush (v := (22 : Int32)) hx hb dX6_qGoesOn_321 (by decide) ?_
  refine lv_icmp_ne (tgt := 362) hx hb dX6_qGoesOn_323 (by decide) (fun c12 => ?_) (fun c12 => ?_)
  rotate_left 1
  · replace h := it c12 h
    exact wX6_qGoesOn_326 S hr hlk hK x7.1 h _ _ hM hS _ (lv_sub hl [0] rfl)
  replace h := ie c12 h
  refine lv_aload_n hx hb dX6_qGoesOn_362 rfl (lv_at hl 0 rfl) ?_
  replace h := ob h
  obtain ⟨x13, hx13, h⟩ := h
  refine kX6_qBracket S hK hM hS hx13 ⟨Nat.le_of_ble_eq_true rfl, Nat.le_of_ble_eq_true rfl⟩ hl.1 (Nat.le_of_ble_eq_true rfl) dX6_qGoesOn_363 (fun H locs hM hS => ?_)
  refine lv_iconst (v := (-1 : Int32)) hx hb dX6_qGoesOn_366 (by decide) ?_
  refine lv_icmp_eq (tgt := 386) hx hb dX6_qGoesOn_367 (by decide) (fun c14 => ?_) (fun c14 => ?_)
  · replace h := it c14 h
    refine lv_iconst (v := (0 : Int32)) hx hb dX6_qGoesOn_386 (by decide) ?_
    exact m_iret S hr hlk rfl hM hS h dX6_qGoesOn_387
  replace h := ie c14 h
  refine lv_aload_n hx hb dX6_qGoesOn_370 rfl (lv_at hl 0 rfl) ?_
  refine m_get S hK hM 5 (Nat.le_of_ble_eq_true rfl) q1737 (v := .int (x7.1.1 5)) rfl dX6_qGoesOn_371 ?_
  refine lv_if_ne (tgt := 386) hx hb dX6_qGoesOn_374 (by decide) (fun c15 => ?_) (fun c15 => ?_)
  · replace h := ie c15 h
    refine lv_iconst (v := (0 : Int32)) hx hb dX6_qGoesOn_386 (by decide) ?_
    exact m_iret S hr hlk rfl hM hS h dX6_qGoesOn_387
  replace h := it c15 h
  refine lv_aload_n hx hb dX6_qGoesOn_377 rfl (lv_at hl 0 rfl) ?_
  refine lv_iconst (v := (1 : Int32)) hx hb dX6_qGoesOn_378 (by decide) ?_
  refine lv_aload_n hx hb dX6_qGoesOn_379 rfl (lv_at hl 0 rfl) ?_
  refine m_get S hK hM 2 (Nat.le_of_ble_eq_true rfl) q1734 (v := .int (x7.1.1 2)) rfl dX6_qGoesOn_380 ?_
  replace h := ob h
  obtain ⟨x16, hx16, h⟩ := h
  refine kX6_fail S hK hM hS hx16 ⟨Nat.le_of_ble_eq_true rfl, Nat.le_of_ble_eq_true rfl⟩ hl.1 (Nat.le_of_ble_eq_true rfl) dX6_qGoesOn_383 (fun H locs hM hS => ?_)
  refine lv_iconst (v := (0 : Int32)) hx hb dX6_qGoesOn_386 (by decide) ?_
  exact m_iret S hr hlk rfl hM hS h dX6_qGoesOn_387
set_option maxHeartbeats 4000000 in
theorem wX6_qGoesOn_0 {p : Program} {l : Launch} {e : Env} {s : State} {m : MethodId} {args : Array Value} {below : List Frame} {meth : Method} {c : Code} {G : mG} {b : Nat} (S : CallFix p m c cX6_qGoesOn 2 s args lw_all RX6) (hr : meth.sig.returnType = some .boolean) (hlk : meth.locks = false) (hK : mK G s) {x : MS × Int32} : ∀ (n : Nat) (σ : MS), fX6_qGoesOn_0 n σ = some x → mGo p l e rmX6_qGoesOn s m args below meth c G b (MQ below (mQi G b x) args s 0 0 (mB b)) 2 0 [(0, .ref b)] [] σ := by
  obtain ⟨hx, hb, hml, hown, hts⟩ := id S
  intro n
  induction n with
  | zero => intro σ h; cases h
  | succ n ih =>
    intro σ h H locs hM hS ls hl
    rw [fX6_qGoesOn_0] at h
    refine lv_aload_n hx hb dX6_qGoesOn_0 rfl (lv_at hl 0 rfl) ?_
    refine m_get S hK hM 5 (Nat.le_of_ble_eq_true rfl) q1737 (v := .int (σ.1 5)) rfl dX6_qGoesOn_1 ?_
    refine lv_if_ne (tgt := 122) hx hb dX6_qGoesOn_4 (by decide) (fun c1 => ?_) (fun c1 => ?_)
    · replace h := ie c1 h
      exact wX6_qGoesOn_122 S hr hlk hK σ h _ _ hM hS _ (lv_sub hl [0] rfl)
    replace h := it c1 h
    refine lv_aload_n hx hb dX6_qGoesOn_7 rfl (lv_at hl 0 rfl) ?_
    replace h := ob h
    obtain ⟨x2, hx2, h⟩ := h
    refine kX6_look S hK hM hS hx2 ⟨Nat.le_of_ble_eq_true rfl, Nat.le_of_ble_eq_true rfl⟩ hl.1 (Nat.le_of_ble_eq_true rfl) dX6_qGoesOn_8 (fun H locs hM hS => ?_)
    refine lv_bipush (v := (41 : Int32)) hx hb dX6_qGoesOn_11 (by decide) ?_
    refine lv_icmp_ne (tgt := 122) hx hb dX6_qGoesOn_13 (by decide) (fun c3 => ?_) (fun c3 => ?_)
    · replace h := ie c3 h
      exact wX6_qGoesOn_122 S hr hlk hK x2.1 h _ _ hM hS _ (lv_sub hl [0] rfl)
    replace h := it c3 h
    refine lv_aload_n hx hb dX6_qGoesOn_16 rfl (lv_at hl 0 rfl) ?_
    replace h := ob h
    obtain ⟨x4, hx4, h⟩ := h
    refine kX6_qBracket S hK hM hS hx4 ⟨Nat.le_of_ble_eq_true rfl, Nat.le_of_ble_eq_true rfl⟩ hl.1 (Nat.le_of_ble_eq_true rfl) dX6_qGoesOn_17 (fun H locs hM hS => ?_)
    refine lv_bipush (v := (20 : Int32)) hx hb dX6_qGoesOn_20 (by decide) ?_
    refine lv_icmp_eq (tgt := 43) hx hb dX6_qGoesOn_22 (by decide) (fun c5 => ?_) (fun c5 => ?_)
    · replace h := it c5 h
      exact wX6_qGoesOn_43 S hr hlk hK ih x2.1 h _ _ hM hS _ (lv_sub hl [0] rfl)
    replace h := ie c5 h
    refine lv_aload_n hx hb dX6_qGoesOn_25 rfl (lv_at hl 0 rfl) ?_
    replace h := ob h
    obtain ⟨x6, hx6, h⟩ := h
    refine kX6_qBracket S hK hM hS hx6 ⟨Nat.le_of_ble_eq_true rfl, Nat.le_of_ble_eq_true rfl⟩ hl.1 (Nat.le_of_ble_eq_true rfl) dX6_qGoesOn_26 (fun H locs hM hS => ?_)
    refine lv_bipush (v := (23 : Int32)) hx hb dX6_qGoesOn_29 (by decide) ?_
    refine lv_icmp_eq (tgt := 43) hx hb dX6_qGoesOn_31 (by decide) (fun c7 => ?_) (fun c7 => ?_)
    · replace h := it c7 h
      exact wX6_qGoesOn_43 S hr hlk hK ih x2.1 h _ _ hM hS _ (lv_sub hl [0] rfl)
    replace h := ie c7 h
    refine lv_aload_n hx hb dX6_qGoesOn_34 rfl (lv_at hl 0 rfl) ?_
    replace h := ob h
    obtain ⟨x8, hx8, h⟩ := h
    refine kX6_qBracket S hK hM hS hx8 ⟨Nat.le_of_ble_eq_true rfl, Nat.le_of_ble_eq_true rfl⟩ hl.1 (Nat.le_of_ble_eq_true rfl) dX6_qGoesOn_35 (fun H locs hM hS => ?_)
    refine lv_bipush (v := (24 : Int32)) hx hb dX6_qGoesOn_38 (by decide) ?_
    refine lv_icmp_ne (tgt := 122) hx hb dX6_qGoesOn_40 (by decide) (fun c9 => ?_) (fun c9 => ?_)
    · replace h := ie c9 h
      exact wX6_qGoesOn_122 S hr hlk hK x2.1 h _ _ hM hS _ (lv_sub hl [0] rfl)
    replace h := it c9 h
    exact wX6_qGoesOn_43 S hr hlk hK ih x2.1 h _ _ hM hS _ (lv_sub hl [0] rfl)
set_option maxHeartbeats 4000000 in
theorem metX6_qGoesOn {l : Launch} {G : mG} {b : Nat} {σ : MS} {x : MS × Int32} (h : fX6_qGoesOn σ = some x) : Met l yX6_qGoesOn (ws_ yX6_qGoesOn cX6_qGoesOn 2 (some .boolean)) rmX6_qGoesOn (mP G b σ [.ref b]) (mQi G b x) 0 0 (mB b) := by
  refine m_entry (by decide) rfl (Nat.le_of_ble_eq_true rfl) ?_
  intro p e s m below meth c S hr hlk hK hM hS ls hl
  replace hl : lv_has ls 2 [(0, .ref b)] := hl
  obtain ⟨hx, hb, hml, hown, hts⟩ := id S
  unfold fX6_qGoesOn at h
  exact wX6_qGoesOn_0 S hr hlk hK FU σ h _ _ hM hS _ (lv_sub hl [0] rfl)
theorem kX6_qGoesOn {p : Program} {l : Launch} {e : Env} {R : Room} {s : State} {m : MethodId} {args : Array Value} {below : List Frame} {meth : Method} {c : Code} {H H0 : Heap} {locs : List Loc} {Q : State → Prop} {cc : ByteArray} {nL pc : Nat} {ls : Array Slot} {rest : List Value} {G : mG} {b : Nat} {σ : MS} {x : MS × Int32} (S : CallFix p m c cc nL s args lw_all RX6) (hK : mK G s) (hM : MW G b σ H) (hS : va_S (mB b) H0 H locs) (hf : fX6_qGoesOn σ = some x) (hR : rmX6_qGoesOn.frames + 1 ≤ R.frames ∧ 8 + (2 + 11) + rmX6_qGoesOn.locals ≤ R.locals) (hsize : ls.size = nL) (hr : (rest.map fun v => v.category).sum ≤ 8) (hdg : decode cc pc = .ok (.invokevirtual 634, 3)) (kk : ∀ (H1 : Heap) (locs1 : List Loc), MW G b x.1 H1 → va_S (mB b) H0 H1 locs1 → W p l e R s m args below meth c H1 locs1 0 0 Q (F0 m (pc + 3) ls (.int x.2 :: rest))) : W p l e R s m args below meth c H locs 0 0 Q (F0 m pc ls (.ref b :: rest)) :=
  m_cVi (As := []) S hK hM hS (metX6_qGoesOn hf) (cwV 0 S.2.2.2.2 (lw_V q2203 q2205 qs99 q179 q2206) rfl rfl rfl (by decide +kernel) hR) ⟨Nat.zero_le _, Nat.zero_le _⟩ rfl hsize rfl hr hdg kk
/-! isDigit(I)Z -/
abbrev rmX6_isDigit : Room := { frames := 1, cells := 0, slots := 0, locals := 0 }
def fX6_isDigit (σ : MS) (a0 : Int32) : Option (Int32) :=
  if a0 < (48 : Int32) then
    some (0 : Int32)
  else
  if (57 : Int32) < a0 then
    some (0 : Int32)
  else
  some (1 : Int32)
set_option maxHeartbeats 4000000 in
theorem metX6_isDigit {l : Launch} {G : mG} {b : Nat} {σ : MS} {a0 : Int32} {x : Int32} (h : fX6_isDigit σ a0 = some x) : Met l yX6_isDigit (ws_ yX6_isDigit cX6_isDigit 1 (some .boolean)) rmX6_isDigit (mP G b σ [.int a0]) (mQi G b (σ, x)) 0 0 (mB b) := by
  refine m_entry (by decide) rfl (Nat.le_of_ble_eq_true rfl) ?_
  intro p e s m below meth c S hr hlk hK hM hS ls hl
  replace hl : lv_has ls 1 [(0, .int a0)] := hl
  obtain ⟨hx, hb, hml, hown, hts⟩ := id S
  unfold fX6_isDigit at h
  refine lv_iload_n hx hb dX6_isDigit_0 rfl (lv_at hl 0 rfl) ?_
  refine lv_bipush (v := (48 : Int32)) hx hb dX6_isDigit_1 (by decide) ?_
  refine lv_icmp_lt (tgt := 16) hx hb dX6_isDigit_3 (by decide) (fun c1 => ?_) (fun c1 => ?_)
  · replace h := it c1 h
    refine lv_iconst (v := (0 : Int32)) hx hb dX6_isDigit_16 (by decide) ?_
    exact m_iret' S hr hlk rfl hM hS h dX6_isDigit_17
  replace h := ie c1 h
  refine lv_iload_n hx hb dX6_isDigit_6 rfl (lv_at hl 0 rfl) ?_
  refine lv_bipush (v := (57 : Int32)) hx hb dX6_isDigit_7 (by decide) ?_
  refine lv_icmp_gt (tgt := 16) hx hb dX6_isDigit_9 (by decide) (fun c2 => ?_) (fun c2 => ?_)
  · replace h := it c2 h
    refine lv_iconst (v := (0 : Int32)) hx hb dX6_isDigit_16 (by decide) ?_
    exact m_iret' S hr hlk rfl hM hS h dX6_isDigit_17
  replace h := ie c2 h
  refine lv_iconst (v := (1 : Int32)) hx hb dX6_isDigit_12 (by decide) ?_
  refine lv_goto (tgt := 17) hx hb dX6_isDigit_13 (by decide) ?_
  exact m_iret' S hr hlk rfl hM hS h dX6_isDigit_17
theorem kX6_isDigit {p : Program} {l : Launch} {e : Env} {R : Room} {s : State} {m : MethodId} {args : Array Value} {below : List Frame} {meth : Method} {c : Code} {H H0 : Heap} {locs : List Loc} {Q : State → Prop} {cc : ByteArray} {nL pc : Nat} {ls : Array Slot} {rest : List Value} {G : mG} {b : Nat} {σ : MS} {a0 : Int32} {x : Int32} (S : CallFix p m c cc nL s args lw_all RX6) (hK : mK G s) (hM : MW G b σ H) (hS : va_S (mB b) H0 H locs) (hf : fX6_isDigit σ a0 = some x) (hR : rmX6_isDigit.frames + 1 ≤ R.frames ∧ 8 + (1 + 11) + rmX6_isDigit.locals ≤ R.locals) (hsize : ls.size = nL) (hr : (rest.map fun v => v.category).sum ≤ 8) (hdg : decode cc pc = .ok (.invokestatic 279, 3)) (kk : ∀ (H1 : Heap) (locs1 : List Loc), MW G b σ H1 → va_S (mB b) H0 H1 locs1 → W p l e R s m args below meth c H1 locs1 0 0 Q (F0 m (pc + 3) ls (.int x :: rest))) : W p l e R s m args below meth c H locs 0 0 Q (F0 m pc ls (.int a0 :: rest)) :=
  m_cSi (As := [.int a0]) S hK hM hS (metX6_isDigit hf) (va_cwS 1 S.2.2.2.2 (lw_S q2119 q2120 q179 q2121) rfl rfl rfl (by decide +kernel) hR) ⟨Nat.zero_le _, Nat.zero_le _⟩ rfl hsize rfl hr hdg kk
/-! isIn(JJJ)Z -/
abbrev rmX6_isIn : Room := { frames := 1, cells := 0, slots := 0, locals := 0 }
def fX6_isIn (σ : MS) (a0 : Int64) (a2 : Int64) (a4 : Int64) : Option (Int32) :=
  if a0 < a2 then
    some (0 : Int32)
  else
  if a4 < a0 then
    some (0 : Int32)
  else
  some (1 : Int32)
set_option maxHeartbeats 4000000 in
theorem metX6_isIn {l : Launch} {G : mG} {b : Nat} {σ : MS} {a0 : Int64} {a2 : Int64} {a4 : Int64} {x : Int32} (h : fX6_isIn σ a0 a2 a4 = some x) : Met l yX6_isIn (ws_ yX6_isIn cX6_isIn 6 (some .boolean)) rmX6_isIn (mP G b σ [.long a0, .long a2, .long a4]) (mQi G b (σ, x)) 0 0 (mB b) := by
  refine m_entry (by decide) rfl (Nat.le_of_ble_eq_true rfl) ?_
  intro p e s m below meth c S hr hlk hK hM hS ls hl
  replace hl : lv_has ls 6 [(0, .long a0), (2, .long a2), (4, .long a4)] := hl
  obtain ⟨hx, hb, hml, hown, hts⟩ := id S
  unfold fX6_isIn at h
  refine lv_lload_n hx hb dX6_isIn_0 rfl (lv_at hl 0 rfl) ?_
  refine lv_lload_n hx hb dX6_isIn_1 rfl (lv_at hl 1 rfl) ?_
  refine m_lcmp S dX6_isIn_2 ?_
  refine lv_if_lt (tgt := 17) hx hb dX6_isIn_3 (by decide) (fun c1 => ?_) (fun c1 => ?_)
  · replace h := it ((lg_cmp_lt _ _).mp c1) h
    refine lv_iconst (v := (0 : Int32)) hx hb dX6_isIn_17 (by decide) ?_
    exact m_iret' S hr hlk rfl hM hS h dX6_isIn_18
  replace h := ie (fun q => c1 ((lg_cmp_lt _ _).mpr q)) h
  refine lv_lload_n hx hb dX6_isIn_6 rfl (lv_at hl 0 rfl) ?_
  refine lv_lload hx hb dX6_isIn_7 (lv_at hl 2 rfl) ?_
  refine m_lcmp S dX6_isIn_9 ?_
  refine lv_if_gt (tgt := 17) hx hb dX6_isIn_10 (by decide) (fun c2 => ?_) (fun c2 => ?_)
  · replace h := it ((lg_cmp_gt _ _).mp c2) h
    refine lv_iconst (v := (0 : Int32)) hx hb dX6_isIn_17 (by decide) ?_
    exact m_iret' S hr hlk rfl hM hS h dX6_isIn_18
  replace h := ie (fun q => c2 ((lg_cmp_gt _ _).mpr q)) h
  refine lv_iconst (v := (1 : Int32)) hx hb dX6_isIn_13 (by decide) ?_
  refine lv_goto (tgt := 18) hx hb dX6_isIn_14 (by decide) ?_
  exact m_iret' S hr hlk rfl hM hS h dX6_isIn_18
theorem kX6_isIn {p : Program} {l : Launch} {e : Env} {R : Room} {s : State} {m : MethodId} {args : Array Value} {below : List Frame} {meth : Method} {c : Code} {H H0 : Heap} {locs : List Loc} {Q : State → Prop} {cc : ByteArray} {nL pc : Nat} {ls : Array Slot} {rest : List Value} {G : mG} {b : Nat} {σ : MS} {a0 : Int64} {a2 : Int64} {a4 : Int64} {x : Int32} (S : CallFix p m c cc nL s args lw_all RX6) (hK : mK G s) (hM : MW G b σ H) (hS : va_S (mB b) H0 H locs) (hf : fX6_isIn σ a0 a2 a4 = some x) (hR : rmX6_isIn.frames + 1 ≤ R.frames ∧ 8 + (6 + 11) + rmX6_isIn.locals ≤ R.locals) (hsize : ls.size = nL) (hr : (rest.map fun v => v.category).sum ≤ 8) (hdg : decode cc pc = .ok (.invokestatic 282, 3)) (kk : ∀ (H1 : Heap) (locs1 : List Loc), MW G b σ H1 → va_S (mB b) H0 H1 locs1 → W p l e R s m args below meth c H1 locs1 0 0 Q (F0 m (pc + 3) ls (.int x :: rest))) : W p l e R s m args below meth c H locs 0 0 Q (F0 m pc ls (.long a4 :: .long a2 :: .long a0 :: rest)) :=
  m_cSi (As := [.long a0, .long a2, .long a4]) S hK hM hS (metX6_isIn hf) (va_cwS 3 S.2.2.2.2 (lw_S q2122 q2123 q179 q2124) rfl rfl rfl (by decide +kernel) hR) ⟨Nat.zero_le _, Nat.zero_le _⟩ rfl hsize rfl hr hdg kk
/-! number(II)I -/
abbrev rmX6_number : Room := { frames := 2, cells := 0, slots := 0, locals := 25 }
def fX6_number_30 (σ : MS) : Option (MS × Int32) :=
  (fX6_fail σ (1 : Int32) (σ.1 2)).bind fun x1 =>
  some (x1, (0 : Int32))
def fX6_number_129 (σ : MS) (a1 : Int32) (a2 : Int32) (a3 : Int32) (a4 : Int32) : Option (MS × Int32) :=
  (fX6_isIn (sI σ 4 (σ.1 2)) a4.toInt64 a1.toInt64 a2.toInt64).bind fun x1 =>
  if x1 = 0 then
    (fX6_fail (sI σ 4 (σ.1 2)) (2 : Int32) a3).bind fun x3 =>
    some (x3, a4)
  else
  some ((sI σ 4 (σ.1 2)), a4)
def fX6_number_49 : Nat → MS → Int32 → Int32 → Int32 → Int32 → Option (MS × Int32)
  | 0, _, _, _, _, _ => none
  | n + 1, σ, a1, a2, a3, a4 =>
    if (σ.1 3) ≤ (σ.1 2) then
      fX6_number_129 σ a1 a2 a3 a4
    else
    (aI σ 0 (σ.1 2)).bind fun v2 =>
    (fX6_isDigit σ v2).bind fun x3 =>
    if x3 = 0 then
      fX6_number_129 σ a1 a2 a3 a4
    else
    if ((σ.1 2) - a3) = (4 : Int32) then
      (fX6_fail σ (1 : Int32) (σ.1 2)).bind fun x7 =>
      some (x7, (0 : Int32))
    else
    (aI σ 0 (σ.1 2)).bind fun v6 =>
    fX6_number_49 n (sI σ 2 ((σ.1 2) + (1 : Int32))) a1 a2 a3 ((((10 : Int32) * a4) + v6) - (48 : Int32))
def fX6_number (σ : MS) (a1 : Int32) (a2 : Int32) : Option (MS × Int32) :=
  if (σ.1 5) = 0 then
    (fX6_look σ).bind fun x2 =>
    (fX6_isDigit x2.1 x2.2).bind fun x3 =>
    if x3 = 0 then
      fX6_number_30 x2.1
    else
    if (x2.1.1 2) = (x2.1.1 4) then
      fX6_number_30 x2.1
    else
    fX6_number_49 FU x2.1 a1 a2 (x2.1.1 2) (0 : Int32)
  else
  some (σ, (0 : Int32))
set_option maxHeartbeats 4000000 in
theorem wX6_number_30 {p : Program} {l : Launch} {e : Env} {s : State} {m : MethodId} {args : Array Value} {below : List Frame} {meth : Method} {c : Code} {G : mG} {b : Nat} (S : CallFix p m c cX6_number 5 s args lw_all RX6) (hr : meth.sig.returnType = some .int) (hlk : meth.locks = false) (hK : mK G s) {x : MS × Int32} : ∀ (σ : MS), fX6_number_30 σ = some x → mGo p l e rmX6_number s m args below meth c G b (MQ below (mQi G b x) args s 0 0 (mB b)) 5 30 [(0, .ref b)] [] σ := by
  obtain ⟨hx, hb, hml, hown, hts⟩ := id S
  intro σ h H locs hM hS ls hl
  unfold fX6_number_30 at h
  refine lv_aload_n hx hb dX6_number_30 rfl (lv_at hl 0 rfl) ?_
  refine lv_iconst (v := (1 : Int32)) hx hb dX6_number_31 (by decide) ?_
  refine lv_aload_n hx hb dX6_number_32 rfl (lv_at hl 0 rfl) ?_
  refine m_get S hK hM 2 (Nat.le_of_ble_eq_true rfl) q1734 (v := .int (σ.1 2)) rfl dX6_number_33 ?_
  replace h := ob h
  obtain ⟨x1, hx1, h⟩ := h
  refine kX6_fail S hK hM hS hx1 ⟨Nat.le_of_ble_eq_true rfl, Nat.le_of_ble_eq_true rfl⟩ hl.1 (Nat.le_of_ble_eq_true rfl) dX6_number_36 (fun H locs hM hS => ?_)
  refine lv_iconst (v := (0 : Int32)) hx hb dX6_number_39 (by decide) ?_
  exact m_iret S hr hlk rfl hM hS h dX6_number_40
set_option maxHeartbeats 4000000 in
theorem wX6_number_129 {p : Program} {l : Launch} {e : Env} {s : State} {m : MethodId} {args : Array Value} {below : List Frame} {meth : Method} {c : Code} {G : mG} {b : Nat} (S : CallFix p m c cX6_number 5 s args lw_all RX6) (hr : meth.sig.returnType = some .int) (hlk : meth.locks = false) (hK : mK G s) {x : MS × Int32} : ∀ (σ : MS) (a1 : Int32) (a2 : Int32) (a3 : Int32) (a4 : Int32), fX6_number_129 σ a1 a2 a3 a4 = some x → mGo p l e rmX6_number s m args below meth c G b (MQ below (mQi G b x) args s 0 0 (mB b)) 5 129 [(0, .ref b), (1, .int a1), (2, .int a2), (3, .int a3), (4, .int a4)] [] σ := by
  obtain ⟨hx, hb, hml, hown, hts⟩ := id S
  intro σ a1 a2 a3 a4 h H locs hM hS ls hl
  unfold fX6_number_129 at h
  refine lv_aload_n hx hb dX6_number_129 rfl (lv_at hl 0 rfl) ?_
  refine lv_aload_n hx hb dX6_number_130 rfl (lv_at hl 0 rfl) ?_
  refine m_get S hK hM 2 (Nat.le_of_ble_eq_true rfl) q1734 (v := .int (σ.1 2)) rfl dX6_number_131 ?_
  refine m_putI S hK hM hS 4 (Nat.le_of_ble_eq_true rfl) rfl q1736 rfl (ty := .int) rfl rfl rfl dX6_number_134 (fun H locs hM hS => ?_)
  refine lv_iload hx hb dX6_number_137 (lv_at hl 4 rfl) ?_
  refine lv_i2l (v := a4.toInt64) hx hb dX6_number_139 rfl ?_
  refine lv_iload_n hx hb dX6_number_140 rfl (lv_at hl 1 rfl) ?_
  refine lv_i2l (v := a1.toInt64) hx hb dX6_number_141 rfl ?_
  refine lv_iload_n hx hb dX6_number_142 rfl (lv_at hl 2 rfl) ?_
  refine lv_i2l (v := a2.toInt64) hx hb dX6_number_143 rfl ?_
  replace h := ob h
  obtain ⟨x1, hx1, h⟩ := h
  refine kX6_isIn S hK hM hS hx1 ⟨Nat.le_of_ble_eq_true rfl, Nat.le_of_ble_eq_true rfl⟩ hl.1 (Nat.le_of_ble_eq_true rfl) dX6_number_144 (fun H locs hM hS => ?_)
  refine lv_if_ne (tgt := 156) hx hb dX6_number_147 (by decide) (fun c2 => ?_) (fun c2 => ?_)
  · replace h := ie c2 h
    refine lv_iload hx hb dX6_number_156 (lv_at hl 4 rfl) ?_
    exact m_iret S hr hlk rfl hM hS h dX6_number_158
  replace h := it c2 h
  refine lv_aload_n hx hb dX6_number_150 rfl (lv_at hl 0 rfl) ?_
  refine lv_iconst (v := (2 : Int32)) hx hb dX6_number_151 (by decide) ?_
  refine lv_iload_n hx hb dX6_number_152 rfl (lv_at hl 3 rfl) ?_
  replace h := ob h
  obtain ⟨x3, hx3, h⟩ := h
  refine kX6_fail S hK hM hS hx3 ⟨Nat.le_of_ble_eq_true rfl, Nat.le_of_ble_eq_true rfl⟩ hl.1 (Nat.le_of_ble_eq_true rfl) dX6_number_153 (fun H locs hM hS => ?_)
  refine lv_iload hx hb dX6_number_156 (lv_at hl 4 rfl) ?_
  exact m_iret S hr hlk rfl hM hS h dX6_number_158
set_option maxHeartbeats 4000000 in
theorem wX6_number_49 {p : Program} {l : Launch} {e : Env} {s : State} {m : MethodId} {args : Array Value} {below : List Frame} {meth : Method} {c : Code} {G : mG} {b : Nat} (S : CallFix p m c cX6_number 5 s args lw_all RX6) (hr : meth.sig.returnType = some .int) (hlk : meth.locks = false) (hK : mK G s) {x : MS × Int32} : ∀ (n : Nat) (σ : MS) (a1 : Int32) (a2 : Int32) (a3 : Int32) (a4 : Int32), fX6_number_49 n σ a1 a2 a3 a4 = some x → mGo p l e rmX6_number s m args below meth c G b (MQ below (mQi G b x) args s 0 0 (mB b)) 5 49 [(0, .ref b), (1, .int a1), (2, .int a2), (3, .int a3), (4, .int a4)] [] σ := by
  obtain ⟨hx, hb, hml, hown, hts⟩ := id S
  intro n
  induction n with
  | zero => intro σ a1 a2 a3 a4 h; cases h
  | succ n ih =>
    intro σ a1 a2 a3 a4 h H locs hM hS ls hl
    rw [fX6_number_49] at h
    refine lv_aload_n hx hb dX6_number_49 rfl (lv_at hl 0 rfl) ?_
    refine m_get S hK hM 2 (Nat.le_of_ble_eq_true rfl) q1734 (v := .int (σ.1 2)) rfl dX6_number_50 ?_
    refine lv_aload_n hx hb dX6_number_53 rfl (lv_at hl 0 rfl) ?_
    refine m_get S hK hM 3 (Nat.le_of_ble_eq_true rfl) q1735 (v := .int (σ.1 3)) rfl dX6_number_54 ?_
    refine lv_icmp_ge (tgt := 129) hx hb dX6_number_57 (by decide) (fun c1 => ?_) (fun c1 => ?_)
    · replace h := it c1 h
      exact wX6_number_129 S hr hlk hK σ a1 a2 a3 a4 h _ _ hM hS _ (lv_sub hl [0, 1, 2, 3, 4] rfl)
    replace h := ie c1 h
    refine lv_aload_n hx hb dX6_number_60 rfl (lv_at hl 0 rfl) ?_
    refine m_get S hK hM 0 (Nat.le_of_ble_eq_true rfl) q1732 (v := .ref (ma b 0)) rfl dX6_number_61 ?_
    refine lv_aload_n hx hb dX6_number_64 rfl (lv_at hl 0 rfl) ?_
    refine m_get S hK hM 2 (Nat.le_of_ble_eq_true rfl) q1734 (v := .int (σ.1 2)) rfl dX6_number_65 ?_
    replace h := ob h
    obtain ⟨v2, hv2, h⟩ := h
    refine m_iald S hK hM 0 rfl hv2 dX6_number_68 ?_
    replace h := ob h
    obtain ⟨x3, hx3, h⟩ := h
    refine kX6_isDigit S hK hM hS hx3 ⟨Nat.le_of_ble_eq_true rfl, Nat.le_of_ble_eq_true rfl⟩ hl.1 (Nat.le_of_ble_eq_true rfl) dX6_number_69 (fun H locs hM hS => ?_)
    refine lv_if_eq (tgt := 129) hx hb dX6_number_72 (by decide) (fun c4 => ?_) (fun c4 => ?_)
    · replace h := it c4 h
      exact wX6_number_129 S hr hlk hK σ a1 a2 a3 a4 h _ _ hM hS _ (lv_sub hl [0, 1, 2, 3, 4] rfl)
    replace h := ie c4 h
    refine lv_aload_n hx hb dX6_number_75 rfl (lv_at hl 0 rfl) ?_
    refine m_get S hK hM 2 (Nat.le_of_ble_eq_true rfl) q1734 (v := .int (σ.1 2)) rfl dX6_number_76 ?_
    refine lv_iload_n hx hb dX6_number_79 rfl (lv_at hl 3 rfl) ?_
    refine lv_isub hx hb dX6_number_80 ?_
    refine lv_iconst (v := (4 : Int32)) hx hb dX6_number_81 (by decide) ?_
    refine lv_icmp_ne (tgt := 96) hx hb dX6_number_82 (by decide) (fun c5 => ?_) (fun c5 => ?_)
    rotate_left 1
    · replace h := it c5 h
      refine lv_aload_n hx hb dX6_number_85 rfl (lv_at hl 0 rfl) ?_
      refine lv_iconst (v := (1 : Int32)) hx hb dX6_number_86 (by decide) ?_
      refine lv_aload_n hx hb dX6_number_87 rfl (lv_at hl 0 rfl) ?_
      refine m_get S hK hM 2 (Nat.le_of_ble_eq_true rfl) q1734 (v := .int (σ.1 2)) rfl dX6_number_88 ?_
      replace h := ob h
      obtain ⟨x7, hx7, h⟩ := h
      refine kX6_fail S hK hM hS hx7 ⟨Nat.le_of_ble_eq_true rfl, Nat.le_of_ble_eq_true rfl⟩ hl.1 (Nat.le_of_ble_eq_true rfl) dX6_number_91 (fun H locs hM hS => ?_)
      refine lv_iconst (v := (0 : Int32)) hx hb dX6_number_94 (by decide) ?_
      exact m_iret S hr hlk rfl hM hS h dX6_number_95
    replace h := ie c5 h
    refine lv_bipush (v := (10 : Int32)) hx hb dX6_number_96 (by decide) ?_
    refine lv_iload hx hb dX6_number_98 (lv_at hl 4 rfl) ?_
    refine lv_imul hx hb dX6_number_100 ?_
    refine lv_aload_n hx hb dX6_number_101 rfl (lv_at hl 0 rfl) ?_
    refine m_get S hK hM 0 (Nat.le_of_ble_eq_true rfl) q1732 (v := .ref (ma b 0)) rfl dX6_number_102 ?_
    refine lv_aload_n hx hb dX6_number_105 rfl (lv_at hl 0 rfl) ?_
    refine m_get S hK hM 2 (Nat.le_of_ble_eq_true rfl) q1734 (v := .int (σ.1 2)) rfl dX6_number_106 ?_
    replace h := ob h
    obtain ⟨v6, hv6, h⟩ := h
    refine m_iald S hK hM 0 rfl hv6 dX6_number_109 ?_
    refine lv_iadd hx hb dX6_number_110 ?_
    refine lv_bipush (v := (48 : Int32)) hx hb dX6_number_111 (by decide) ?_
    refine lv_isub hx hb dX6_number_113 ?_
    refine lv_istore (lv' := [(4, .int ((((10 : Int32) * a4) + v6) - (48 : Int32))), (0, .ref b), (1, .int a1), (2, .int a2), (3, .int a3)]) hx hb dX6_number_114 hl (by decide) rfl (fun ls hl => ?_)
    refine lv_aload_n hx hb dX6_number_116 rfl (lv_at hl 1 rfl) ?_
    refine lv_dup hx hb dX6_number_117 rfl ?_
    refine m_get S hK hM 2 (Nat.le_of_ble_eq_true rfl) q1734 (v := .int (σ.1 2)) rfl dX6_number_118 ?_
    refine lv_iconst (v := (1 : Int32)) hx hb dX6_number_121 (by decide) ?_
    refine lv_iadd hx hb dX6_number_122 ?_
    refine m_putI S hK hM hS 2 (Nat.le_of_ble_eq_true rfl) rfl q1734 rfl (ty := .int) rfl rfl rfl dX6_number_123 (fun H locs hM hS => ?_)
    refine lv_goto (tgt := 49) hx hb dX6_number_126 (by decide) ?_
    exact ih (sI σ 2 ((σ.1 2) + (1 : Int32))) a1 a2 a3 ((((10 : Int32) * a4) + v6) - (48 : Int32)) h _ _ hM hS _ (lv_sub hl [1, 2, 3, 4, 0] rfl)
set_option maxHeartbeats 4000000 in
theorem metX6_number {l : Launch} {G : mG} {b : Nat} {σ : MS} {a1 : Int32} {a2 : Int32} {x : MS × Int32} (h : fX6_number σ a1 a2 = some x) : Met l yX6_number (ws_ yX6_number cX6_number 5 (some .int)) rmX6_number (mP G b σ [.ref b, .int a1, .int a2]) (mQi G b x) 0 0 (mB b) := by
  refine m_entry (by decide) rfl (Nat.le_of_ble_eq_true rfl) ?_
  intro p e s m below meth c S hr hlk hK hM hS ls hl
  replace hl : lv_has ls 5 [(0, .ref b), (1, .int a1), (2, .int a2)] := hl
  obtain ⟨hx, hb, hml, hown, hts⟩ := id S
  unfold fX6_number at h
  refine lv_aload_n hx hb dX6_number_0 rfl (lv_at hl 0 rfl) ?_
  refine m_get S hK hM 5 (Nat.le_of_ble_eq_true rfl) q1737 (v := .int (σ.1 5)) rfl dX6_number_1 ?_
  refine lv_if_eq (tgt := 9) hx hb dX6_number_4 (by decide) (fun c1 => ?_) (fun c1 => ?_)
  rotate_left 1
  · replace h := ie c1 h
    refine lv_iconst (v := (0 : Int32)) hx hb dX6_number_7 (by decide) ?_
    exact m_iret S hr hlk rfl hM hS h dX6_number_8
  replace h := it c1 h
  refine lv_aload_n hx hb dX6_number_9 rfl (lv_at hl 0 rfl) ?_
  replace h := ob h
  obtain ⟨x2, hx2, h⟩ := h
  refine kX6_look S hK hM hS hx2 ⟨Nat.le_of_ble_eq_true rfl, Nat.le_of_ble_eq_true rfl⟩ hl.1 (Nat.le_of_ble_eq_true rfl) dX6_number_10 (fun H locs hM hS => ?_)
  replace h := ob h
  obtain ⟨x3, hx3, h⟩ := h
  refine kX6_isDigit S hK hM hS hx3 ⟨Nat.le_of_ble_eq_true rfl, Nat.le_of_ble_eq_true rfl⟩ hl.1 (Nat.le_of_ble_eq_true rfl) dX6_number_13 (fun H locs hM hS => ?_)
  refine lv_if_eq (tgt := 30) hx hb dX6_number_16 (by decide) (fun c4 => ?_) (fun c4 => ?_)
  · replace h := it c4 h
    exact wX6_number_30 S hr hlk hK x2.1 h _ _ hM hS _ (lv_sub hl [0] rfl)
  replace h := ie c4 h
  refine lv_aload_n hx hb dX6_number_19 rfl (lv_at hl 0 rfl) ?_
  refine m_get S hK hM 2 (Nat.le_of_ble_eq_true rfl) q1734 (v := .int (x2.1.1 2)) rfl dX6_number_20 ?_
  refine lv_aload_n hx hb dX6_number_23 rfl (lv_at hl 0 rfl) ?_
  refine m_get S hK hM 4 (Nat.le_of_ble_eq_true rfl) q1736 (v := .int (x2.1.1 4)) rfl dX6_number_24 ?_
  refine lv_icmp_ne (tgt := 41) hx hb dX6_number_27 (by decide) (fun c5 => ?_) (fun c5 => ?_)
  rotate_left 1
  · replace h := it c5 h
    exact wX6_number_30 S hr hlk hK x2.1 h _ _ hM hS _ (lv_sub hl [0] rfl)
  replace h := ie c5 h
  refine lv_aload_n hx hb dX6_number_41 rfl (lv_at hl 0 rfl) ?_
  refine m_get S hK hM 2 (Nat.le_of_ble_eq_true rfl) q1734 (v := .int (x2.1.1 2)) rfl dX6_number_42 ?_
  refine lv_istore_n (lv' := [(3, .int (x2.1.1 2)), (0, .ref b), (1, .int a1), (2, .int a2)]) hx hb dX6_number_45 rfl hl (by decide) rfl (fun ls hl => ?_)
  refine lv_iconst (v := (0 : Int32)) hx hb dX6_number_46 (by decide) ?_
  refine lv_istore (lv' := [(4, .int (0 : Int32)), (3, .int (x2.1.1 2)), (0, .ref b), (1, .int a1), (2, .int a2)]) hx hb dX6_number_47 hl (by decide) rfl (fun ls hl => ?_)
  exact wX6_number_49 S hr hlk hK FU x2.1 a1 a2 (x2.1.1 2) (0 : Int32) h _ _ hM hS _ (lv_sub hl [2, 3, 4, 1, 0] rfl)
theorem kX6_number {p : Program} {l : Launch} {e : Env} {R : Room} {s : State} {m : MethodId} {args : Array Value} {below : List Frame} {meth : Method} {c : Code} {H H0 : Heap} {locs : List Loc} {Q : State → Prop} {cc : ByteArray} {nL pc : Nat} {ls : Array Slot} {rest : List Value} {G : mG} {b : Nat} {σ : MS} {a1 : Int32} {a2 : Int32} {x : MS × Int32} (S : CallFix p m c cc nL s args lw_all RX6) (hK : mK G s) (hM : MW G b σ H) (hS : va_S (mB b) H0 H locs) (hf : fX6_number σ a1 a2 = some x) (hR : rmX6_number.frames + 1 ≤ R.frames ∧ 8 + (5 + 11) + rmX6_number.locals ≤ R.locals) (hsize : ls.size = nL) (hr : (rest.map fun v => v.category).sum ≤ 8) (hdg : decode cc pc = .ok (.invokevirtual 327, 3)) (kk : ∀ (H1 : Heap) (locs1 : List Loc), MW G b x.1 H1 → va_S (mB b) H0 H1 locs1 → W p l e R s m args below meth c H1 locs1 0 0 Q (F0 m (pc + 3) ls (.int x.2 :: rest))) : W p l e R s m args below meth c H locs 0 0 Q (F0 m pc ls (.int a2 :: .int a1 :: .ref b :: rest)) :=
  m_cVi (As := [.int a1, .int a2]) S hK hM hS (metX6_number hf) (cwV 2 S.2.2.2.2 (lw_V q2115 q2117 qs79 q179 q2118) rfl rfl rfl (by decide +kernel) hR) ⟨Nat.zero_le _, Nat.zero_le _⟩ rfl hsize rfl hr hdg kk
/-! qAsksWord(I)V -/
abbrev rmX6_qAsksWord : Room := { frames := 5, cells := 0, slots := 0, locals := 85 }
def fX6_qAsksWord (σ : MS) (a1 : Int32) : Option (MS) :=
  if a1 = 0 then
    (fX6_asks σ 83).bind fun x1 =>
    some x1
  else
  if a1 = 1 then
    (fX6_asks σ 84).bind fun x3 =>
    some x3
  else
  if a1 = 2 then
    (fX6_asks σ 85).bind fun x5 =>
    some x5
  else
  if a1 = 3 then
    (fX6_asks σ 86).bind fun x7 =>
    some x7
  else
  if a1 = 4 then
    (fX6_asks σ 87).bind fun x9 =>
    some x9
  else
  if a1 = 5 then
    (fX6_asks σ 88).bind fun x11 =>
    some x11
  else
  if a1 = 6 then
    (fX6_asks σ 89).bind fun x13 =>
    some x13
  else
  if a1 = 7 then
    (fX6_asks σ 90).bind fun x15 =>
    some x15
  else
  (fX6_asks σ 85).bind fun x17 =>
  some x17
set_option maxHeartbeats 4000000 in
theorem metX6_qAsksWord {l : Launch} {G : mG} {b : Nat} {σ : MS} {a1 : Int32} {x : MS} (h : fX6_qAsksWord σ a1 = some x) : Met l yX6_qAsksWord (ws_ yX6_qAsksWord cX6_qAsksWord 2 (none)) rmX6_qAsksWord (mP G b σ [.ref b, .int a1]) (mQv G b x) 0 0 (mB b) := by
  refine m_entry (by decide) rfl (Nat.le_of_ble_eq_true rfl) ?_
  intro p e s m below meth c S hr hlk hK hM hS ls hl
  replace hl : lv_has ls 2 [(0, .ref b), (1, .int a1)] := hl
  obtain ⟨hx, hb, hml, hown, hts⟩ := id S
  unfold fX6_qAsksWord at h
  refine lv_iload_n hx hb dX6_qAsksWord_0 rfl (lv_at hl 1 rfl) ?_
  by_cases c2 : a1 = 0
  · replace h := it c2 h
    refine lv_tableIn (off := 47) (tgt := 48) hx hb dX6_qAsksWord_1 (by rw [c2]; decide) (by rw [c2]; decide) (by rw [c2]; rfl) (by decide) ?_
    refine lv_aload_n hx hb dX6_qAsksWord_48 rfl (lv_at hl 0 rfl) ?_
    refine lv_aload_n hx hb dX6_qAsksWord_49 rfl (lv_at hl 0 rfl) ?_
    refine m_get S hK hM 83 (Nat.le_of_ble_eq_true rfl) q1815 (v := .ref (ma b 83)) rfl dX6_qAsksWord_50 ?_
    replace h := ob h
    obtain ⟨x1, hx1, h⟩ := h
    refine kX6_asks S hK hM hS hx1 ⟨Nat.le_of_ble_eq_true rfl, Nat.le_of_ble_eq_true rfl⟩ hl.1 (Nat.le_of_ble_eq_true rfl) dX6_qAsksWord_53 (fun H locs hM hS => ?_)
    refine lv_goto (tgt := 144) hx hb dX6_qAsksWord_56 (by decide) ?_
    exact m_vret S hr hlk hM hS h dX6_qAsksWord_144
  replace h := ie c2 h
  by_cases c4 : a1 = 1
  · replace h := it c4 h
    refine lv_tableIn (off := 58) (tgt := 59) hx hb dX6_qAsksWord_1 (by rw [c4]; decide) (by rw [c4]; decide) (by rw [c4]; rfl) (by decide) ?_
    refine lv_aload_n hx hb dX6_qAsksWord_59 rfl (lv_at hl 0 rfl) ?_
    refine lv_aload_n hx hb dX6_qAsksWord_60 rfl (lv_at hl 0 rfl) ?_
    refine m_get S hK hM 84 (Nat.le_of_ble_eq_true rfl) q1816 (v := .ref (ma b 84)) rfl dX6_qAsksWord_61 ?_
    replace h := ob h
    obtain ⟨x3, hx3, h⟩ := h
    refine kX6_asks S hK hM hS hx3 ⟨Nat.le_of_ble_eq_true rfl, Nat.le_of_ble_eq_true rfl⟩ hl.1 (Nat.le_of_ble_eq_true rfl) dX6_qAsksWord_64 (fun H locs hM hS => ?_)
    refine lv_goto (tgt := 144) hx hb dX6_qAsksWord_67 (by decide) ?_
    exact m_vret S hr hlk hM hS h dX6_qAsksWord_144
  replace h := ie c4 h
  by_cases c6 : a1 = 2
  · replace h := it c6 h
    refine lv_tableIn (off := 69) (tgt := 70) hx hb dX6_qAsksWord_1 (by rw [c6]; decide) (by rw [c6]; decide) (by rw [c6]; rfl) (by decide) ?_
    refine lv_aload_n hx hb dX6_qAsksWord_70 rfl (lv_at hl 0 rfl) ?_
    refine lv_aload_n hx hb dX6_qAsksWord_71 rfl (lv_at hl 0 rfl) ?_
    refine m_get S hK hM 85 (Nat.le_of_ble_eq_true rfl) q1817 (v := .ref (ma b 85)) rfl dX6_qAsksWord_72 ?_
    replace h := ob h
    obtain ⟨x5, hx5, h⟩ := h
    refine kX6_asks S hK hM hS hx5 ⟨Nat.le_of_ble_eq_true rfl, Nat.le_of_ble_eq_true rfl⟩ hl.1 (Nat.le_of_ble_eq_true rfl) dX6_qAsksWord_75 (fun H locs hM hS => ?_)
    refine lv_goto (tgt := 144) hx hb dX6_qAsksWord_78 (by decide) ?_
    exact m_vret S hr hlk hM hS h dX6_qAsksWord_144
  replace h := ie c6 h
  by_cases c8 : a1 = 3
  · replace h := it c8 h
    refine lv_tableIn (off := 80) (tgt := 81) hx hb dX6_qAsksWord_1 (by rw [c8]; decide) (by rw [c8]; decide) (by rw [c8]; rfl) (by decide) ?_
    refine lv_aload_n hx hb dX6_qAsksWord_81 rfl (lv_at hl 0 rfl) ?_
    refine lv_aload_n hx hb dX6_qAsksWord_82 rfl (lv_at hl 0 rfl) ?_
    refine m_get S hK hM 86 (Nat.le_of_ble_eq_true rfl) q1818 (v := .ref (ma b 86)) rfl dX6_qAsksWord_83 ?_
    replace h := ob h
    obtain ⟨x7, hx7, h⟩ := h
    refine kX6_asks S hK hM hS hx7 ⟨Nat.le_of_ble_eq_true rfl, Nat.le_of_ble_eq_true rfl⟩ hl.1 (Nat.le_of_ble_eq_true rfl) dX6_qAsksWord_86 (fun H locs hM hS => ?_)
    refine lv_goto (tgt := 144) hx hb dX6_qAsksWord_89 (by decide) ?_
    exact m_vret S hr hlk hM hS h dX6_qAsksWord_144
  replace h := ie c8 h
  by_cases c10 : a1 = 4
  · replace h := it c10 h
    refine lv_tableIn (off := 91) (tgt := 92) hx hb dX6_qAsksWord_1 (by rw [c10]; decide) (by rw [c10]; decide) (by rw [c10]; rfl) (by decide) ?_
    refine lv_aload_n hx hb dX6_qAsksWord_92 rfl (lv_at hl 0 rfl) ?_
    refine lv_aload_n hx hb dX6_qAsksWord_93 rfl (lv_at hl 0 rfl) ?_
    refine m_get S hK hM 87 (Nat.le_of_ble_eq_true rfl) q1819 (v := .ref (ma b 87)) rfl dX6_qAsksWord_94 ?_
    replace h := ob h
    obtain ⟨x9, hx9, h⟩ := h
    refine kX6_asks S hK hM hS hx9 ⟨Nat.le_of_ble_eq_true rfl, Nat.le_of_ble_eq_true rfl⟩ hl.1 (Nat.le_of_ble_eq_true rfl) dX6_qAsksWord_97 (fun H locs hM hS => ?_)
    refine lv_goto (tgt := 144) hx hb dX6_qAsksWord_100 (by decide) ?_
    exact m_vret S hr hlk hM hS h dX6_qAsksWord_144
  replace h := ie c10 h
  by_cases c12 : a1 = 5
  · replace h := it c12 h
    refine lv_tableIn (off := 102) (tgt := 103) hx hb dX6_qAsksWord_1 (by rw [c12]; decide) (by rw [c12]; decide) (by rw [c12]; rfl) (by decide) ?_
    refine lv_aload_n hx hb dX6_qAsksWord_103 rfl (lv_at hl 0 rfl) ?_
    refine lv_aload_n hx hb dX6_qAsksWord_104 rfl (lv_at hl 0 rfl) ?_
    refine m_get S hK hM 88 (Nat.le_of_ble_eq_true rfl) q1820 (v := .ref (ma b 88)) rfl dX6_qAsksWord_105 ?_
    replace h := ob h
    obtain ⟨x11, hx11, h⟩ := h
    refine kX6_asks S hK hM hS hx11 ⟨Nat.le_of_ble_eq_true rfl, Nat.le_of_ble_eq_true rfl⟩ hl.1 (Nat.le_of_ble_eq_true rfl) dX6_qAsksWord_108 (fun H locs hM hS => ?_)
    refine lv_goto (tgt := 144) hx hb dX6_qAsksWord_111 (by decide) ?_
    exact m_vret S hr hlk hM hS h dX6_qAsksWord_144
  replace h := ie c12 h
  by_cases c14 : a1 = 6
  · replace h := it c14 h
    refine lv_tableIn (off := 113) (tgt := 114) hx hb dX6_qAsksWord_1 (by rw [c14]; decide) (by rw [c14]; decide) (by rw [c14]; rfl) (by decide) ?_
    refine lv_aload_n hx hb dX6_qAsksWord_114 rfl (lv_at hl 0 rfl) ?_
    refine lv_aload_n hx hb dX6_qAsksWord_115 rfl (lv_at hl 0 rfl) ?_
    refine m_get S hK hM 89 (Nat.le_of_ble_eq_true rfl) q1821 (v := .ref (ma b 89)) rfl dX6_qAsksWord_116 ?_
    replace h := ob h
    obtain ⟨x13, hx13, h⟩ := h
    refine kX6_asks S hK hM hS hx13 ⟨Nat.le_of_ble_eq_true rfl, Nat.le_of_ble_eq_true rfl⟩ hl.1 (Nat.le_of_ble_eq_true rfl) dX6_qAsksWord_119 (fun H locs hM hS => ?_)
    refine lv_goto (tgt := 144) hx hb dX6_qAsksWord_122 (by decide) ?_
    exact m_vret S hr hlk hM hS h dX6_qAsksWord_144
  replace h := ie c14 h
  by_cases c16 : a1 = 7
  · replace h := it c16 h
    refine lv_tableIn (off := 124) (tgt := 125) hx hb dX6_qAsksWord_1 (by rw [c16]; decide) (by rw [c16]; decide) (by rw [c16]; rfl) (by decide) ?_
    refine lv_aload_n hx hb dX6_qAsksWord_125 rfl (lv_at hl 0 rfl) ?_
    refine lv_aload_n hx hb dX6_qAsksWord_126 rfl (lv_at hl 0 rfl) ?_
    refine m_get S hK hM 90 (Nat.le_of_ble_eq_true rfl) q1822 (v := .ref (ma b 90)) rfl dX6_qAsksWord_127 ?_
    replace h := ob h
    obtain ⟨x15, hx15, h⟩ := h
    refine kX6_asks S hK hM hS hx15 ⟨Nat.le_of_ble_eq_true rfl, Nat.le_of_ble_eq_true rfl⟩ hl.1 (Nat.le_of_ble_eq_true rfl) dX6_qAsksWord_130 (fun H locs hM hS => ?_)
    refine lv_goto (tgt := 144) hx hb dX6_qAsksWord_133 (by decide) ?_
    exact m_vret S hr hlk hM hS h dX6_qAsksWord_144
  replace h := ie c16 h
  refine lv_tableOut (tgt := 136) hx hb dX6_qAsksWord_1 (sw_out0_8 c2 c4 c6 c8 c10 c12 c14 c16) (by decide) ?_
  refine lv_aload_n hx hb dX6_qAsksWord_136 rfl (lv_at hl 0 rfl) ?_
  refine lv_aload_n hx hb dX6_qAsksWord_137 rfl (lv_at hl 0 rfl) ?_
  refine m_get S hK hM 85 (Nat.le_of_ble_eq_true rfl) q1817 (v := .ref (ma b 85)) rfl dX6_qAsksWord_138 ?_
  replace h := ob h
  obtain ⟨x17, hx17, h⟩ := h
  refine kX6_asks S hK hM hS hx17 ⟨Nat.le_of_ble_eq_true rfl, Nat.le_of_ble_eq_true rfl⟩ hl.1 (Nat.le_of_ble_eq_true rfl) dX6_qAsksWord_141 (fun H locs hM hS => ?_)
  exact m_vret S hr hlk hM hS h dX6_qAsksWord_144
theorem kX6_qAsksWord {p : Program} {l : Launch} {e : Env} {R : Room} {s : State} {m : MethodId} {args : Array Value} {below : List Frame} {meth : Method} {c : Code} {H H0 : Heap} {locs : List Loc} {Q : State → Prop} {cc : ByteArray} {nL pc : Nat} {ls : Array Slot} {rest : List Value} {G : mG} {b : Nat} {σ : MS} {a1 : Int32} {x : MS} (S : CallFix p m c cc nL s args lw_all RX6) (hK : mK G s) (hM : MW G b σ H) (hS : va_S (mB b) H0 H locs) (hf : fX6_qAsksWord σ a1 = some x) (hR : rmX6_qAsksWord.frames + 1 ≤ R.frames ∧ 8 + (2 + 11) + rmX6_qAsksWord.locals ≤ R.locals) (hsize : ls.size = nL) (hr : (rest.map fun v => v.category).sum ≤ 8) (hdg : decode cc pc = .ok (.invokevirtual 616, 3)) (kk : ∀ (H1 : Heap) (locs1 : List Loc), MW G b x H1 → va_S (mB b) H0 H1 locs1 → W p l e R s m args below meth c H1 locs1 0 0 Q (F0 m (pc + 3) ls (rest))) : W p l e R s m args below meth c H locs 0 0 Q (F0 m pc ls (.int a1 :: .ref b :: rest)) :=
  m_cVv (As := [.int a1]) S hK hM hS (metX6_qAsksWord hf) (cwV 1 S.2.2.2.2 (lw_V q2191 q2193 qs96 q179 q2194) rfl rfl rfl (by decide +kernel) hR) ⟨Nat.zero_le _, Nat.zero_le _⟩ rfl hsize rfl hr hdg kk
/-! qOpens(II)V -/
abbrev rmX6_qOpens : Room := { frames := 2, cells := 0, slots := 0, locals := 22 }
def fX6_qOpens (σ : MS) (a1 : Int32) (a2 : Int32) : Option (MS) :=
  if (σ.1 5) = 0 then
    if (σ.1 95) = (6 : Int32) then
      (fX6_fail σ (4 : Int32) a2).bind fun x4 =>
      some x4
    else
    (tI (sI σ 95 ((σ.1 95) + (1 : Int32))) 93 ((sI σ 95 ((σ.1 95) + (1 : Int32))).1 94) a1).bind fun σ3 =>
    some (sI σ3 94 ((σ3.1 94) + (1 : Int32)))
  else
  some σ
set_option maxHeartbeats 4000000 in
theorem metX6_qOpens {l : Launch} {G : mG} {b : Nat} {σ : MS} {a1 : Int32} {a2 : Int32} {x : MS} (h : fX6_qOpens σ a1 a2 = some x) : Met l yX6_qOpens (ws_ yX6_qOpens cX6_qOpens 3 (none)) rmX6_qOpens (mP G b σ [.ref b, .int a1, .int a2]) (mQv G b x) 0 0 (mB b) := by
  refine m_entry (by decide) rfl (Nat.le_of_ble_eq_true rfl) ?_
  intro p e s m below meth c S hr hlk hK hM hS ls hl
  replace hl : lv_has ls 3 [(0, .ref b), (1, .int a1), (2, .int a2)] := hl
  obtain ⟨hx, hb, hml, hown, hts⟩ := id S
  unfold fX6_qOpens at h
  refine lv_aload_n hx hb dX6_qOpens_0 rfl (lv_at hl 0 rfl) ?_
  refine m_get S hK hM 5 (Nat.le_of_ble_eq_true rfl) q1737 (v := .int (σ.1 5)) rfl dX6_qOpens_1 ?_
  refine lv_if_eq (tgt := 8) hx hb dX6_qOpens_4 (by decide) (fun c1 => ?_) (fun c1 => ?_)
  rotate_left 1
  · replace h := ie c1 h
    exact m_vret S hr hlk hM hS h dX6_qOpens_7
  replace h := it c1 h
  refine lv_aload_n hx hb dX6_qOpens_8 rfl (lv_at hl 0 rfl) ?_
  refine m_get S hK hM 95 (Nat.le_of_ble_eq_true rfl) q1827 (v := .int (σ.1 95)) rfl dX6_qOpens_9 ?_
  refine lv_bipush (v := (6 : Int32)) hx hb dX6_qOpens_12 (by decide) ?_
  refine lv_icmp_ne (tgt := 24) hx hb dX6_qOpens_14 (by decide) (fun c2 => ?_) (fun c2 => ?_)
  rotate_left 1
  · replace h := it c2 h
    refine lv_aload_n hx hb dX6_qOpens_17 rfl (lv_at hl 0 rfl) ?_
    refine lv_iconst (v := (4 : Int32)) hx hb dX6_qOpens_18 (by decide) ?_
    refine lv_iload_n hx hb dX6_qOpens_19 rfl (lv_at hl 2 rfl) ?_
    replace h := ob h
    obtain ⟨x4, hx4, h⟩ := h
    refine kX6_fail S hK hM hS hx4 ⟨Nat.le_of_ble_eq_true rfl, Nat.le_of_ble_eq_true rfl⟩ hl.1 (Nat.le_of_ble_eq_true rfl) dX6_qOpens_20 (fun H locs hM hS => ?_)
    exact m_vret S hr hlk hM hS h dX6_qOpens_23
  replace h := ie c2 h
  refine lv_aload_n hx hb dX6_qOpens_24 rfl (lv_at hl 0 rfl) ?_
  refine lv_dup hx hb dX6_qOpens_25 rfl ?_
  refine m_get S hK hM 95 (Nat.le_of_ble_eq_true rfl) q1827 (v := .int (σ.1 95)) rfl dX6_qOpens_26 ?_
  refine lv_iconst (v := (1 : Int32)) hx hb dX6_qOpens_29 (by decide) ?_
  refine lv_iadd hx hb dX6_qOpens_30 ?_
  refine m_putI S hK hM hS 95 (Nat.le_of_ble_eq_true rfl) rfl q1827 rfl (ty := .int) rfl rfl rfl dX6_qOpens_31 (fun H locs hM hS => ?_)
  refine lv_aload_n hx hb dX6_qOpens_34 rfl (lv_at hl 0 rfl) ?_
  refine m_get S hK hM 93 (Nat.le_of_ble_eq_true rfl) q1825 (v := .ref (ma b 93)) rfl dX6_qOpens_35 ?_
  refine lv_aload_n hx hb dX6_qOpens_38 rfl (lv_at hl 0 rfl) ?_
  refine m_get S hK hM 94 (Nat.le_of_ble_eq_true rfl) q1826 (v := .int ((sI σ 95 ((σ.1 95) + (1 : Int32))).1 94)) rfl dX6_qOpens_39 ?_
  refine lv_iload_n hx hb dX6_qOpens_42 rfl (lv_at hl 1 rfl) ?_
  replace h := ob h
  obtain ⟨σ3, hσ3, h⟩ := h
  refine m_iast S hK hM hS 93 rfl hσ3 dX6_qOpens_43 (fun H locs hM hS => ?_)
  refine lv_aload_n hx hb dX6_qOpens_44 rfl (lv_at hl 0 rfl) ?_
  refine lv_dup hx hb dX6_qOpens_45 rfl ?_
  refine m_get S hK hM 94 (Nat.le_of_ble_eq_true rfl) q1826 (v := .int (σ3.1 94)) rfl dX6_qOpens_46 ?_
  refine lv_iconst (v := (1 : Int32)) hx hb dX6_qOpens_49 (by decide) ?_
  refine lv_iadd hx hb dX6_qOpens_50 ?_
  refine m_putI S hK hM hS 94 (Nat.le_of_ble_eq_true rfl) rfl q1826 rfl (ty := .int) rfl rfl rfl dX6_qOpens_51 (fun H locs hM hS => ?_)
  exact m_vret S hr hlk hM hS h dX6_qOpens_54
theorem kX6_qOpens {p : Program} {l : Launch} {e : Env} {R : Room} {s : State} {m : MethodId} {args : Array Value} {below : List Frame} {meth : Method} {c : Code} {H H0 : Heap} {locs : List Loc} {Q : State → Prop} {cc : ByteArray} {nL pc : Nat} {ls : Array Slot} {rest : List Value} {G : mG} {b : Nat} {σ : MS} {a1 : Int32} {a2 : Int32} {x : MS} (S : CallFix p m c cc nL s args lw_all RX6) (hK : mK G s) (hM : MW G b σ H) (hS : va_S (mB b) H0 H locs) (hf : fX6_qOpens σ a1 a2 = some x) (hR : rmX6_qOpens.frames + 1 ≤ R.frames ∧ 8 + (3 + 11) + rmX6_qOpens.locals ≤ R.locals) (hsize : ls.size = nL) (hr : (rest.map fun v => v.category).sum ≤ 8) (hdg : decode cc pc = .ok (.invokevirtual 613, 3)) (kk : ∀ (H1 : Heap) (locs1 : List Loc), MW G b x H1 → va_S (mB b) H0 H1 locs1 → W p l e R s m args below meth c H1 locs1 0 0 Q (F0 m (pc + 3) ls (rest))) : W p l e R s m args below meth c H locs 0 0 Q (F0 m pc ls (.int a2 :: .int a1 :: .ref b :: rest)) :=
  m_cVv (As := [.int a1, .int a2]) S hK hM hS (metX6_qOpens hf) (cwV 2 S.2.2.2.2 (lw_V q2149 q2151 qs86 q179 q2152) rfl rfl rfl (by decide +kernel) hR) ⟨Nat.zero_le _, Nat.zero_le _⟩ rfl hsize rfl hr hdg kk
/-! isAllowed(I)Z -/
abbrev rmX6_isAllowed : Room := { frames := 2, cells := 0, slots := 0, locals := 25 }
def fX6_isAllowed_72 (σ : MS) : Option (Int32) :=
  some (1 : Int32)
def fX6_isAllowed_87 (σ : MS) : Option (Int32) :=
  some (1 : Int32)
def fX6_isAllowed (σ : MS) (a1 : Int32) : Option (Int32) :=
  if (σ.1 53) = 0 then
    if (3 : Int32) ≤ a1 then
      some (0 : Int32)
    else
    some (1 : Int32)
  else
  if (σ.1 53) = 1 then
    if (2 : Int32) ≤ a1 then
      some (0 : Int32)
    else
    some (1 : Int32)
  else
  if (σ.1 53) = 2 then
    if a1 = 0 then
      fX6_isAllowed_72 σ
    else
    (fX6_isIn σ a1.toInt64 (3 : Int64) (5 : Int64)).bind fun x6 =>
    if x6 = 0 then
      some (0 : Int32)
    else
    fX6_isAllowed_72 σ
  else
  if a1 = 0 then
    fX6_isAllowed_87 σ
  else
  if a1 ≤ (2 : Int32) then
    some (0 : Int32)
  else
  fX6_isAllowed_87 σ
set_option maxHeartbeats 4000000 in
theorem wX6_isAllowed_72 {p : Program} {l : Launch} {e : Env} {s : State} {m : MethodId} {args : Array Value} {below : List Frame} {meth : Method} {c : Code} {G : mG} {b : Nat} {σ : MS} (S : CallFix p m c cX6_isAllowed 2 s args lw_all RX6) (hr : meth.sig.returnType = some .boolean) (hlk : meth.locks = false) (hK : mK G s) {x : Int32} : fX6_isAllowed_72 σ = some x → mGo p l e rmX6_isAllowed s m args below meth c G b (MQ below (mQi G b (σ, x)) args s 0 0 (mB b)) 2 72 [(0, .ref b)] [] σ := by
  obtain ⟨hx, hb, hml, hown, hts⟩ := id S
  intro  h H locs hM hS ls hl
  unfold fX6_isAllowed_72 at h
  refine lv_iconst (v := (1 : Int32)) hx hb dX6_isAllowed_72 (by decide) ?_
  refine lv_goto (tgt := 77) hx hb dX6_isAllowed_73 (by decide) ?_
  exact m_iret' S hr hlk rfl hM hS h dX6_isAllowed_77
set_option maxHeartbeats 4000000 in
theorem wX6_isAllowed_87 {p : Program} {l : Launch} {e : Env} {s : State} {m : MethodId} {args : Array Value} {below : List Frame} {meth : Method} {c : Code} {G : mG} {b : Nat} {σ : MS} (S : CallFix p m c cX6_isAllowed 2 s args lw_all RX6) (hr : meth.sig.returnType = some .boolean) (hlk : meth.locks = false) (hK : mK G s) {x : Int32} : fX6_isAllowed_87 σ = some x → mGo p l e rmX6_isAllowed s m args below meth c G b (MQ below (mQi G b (σ, x)) args s 0 0 (mB b)) 2 87 [(0, .ref b)] [] σ := by
  obtain ⟨hx, hb, hml, hown, hts⟩ := id S
  intro  h H locs hM hS ls hl
  unfold fX6_isAllowed_87 at h
  refine lv_iconst (v := (1 : Int32)) hx hb dX6_isAllowed_87 (by decide) ?_
  refine lv_goto (tgt := 92) hx hb dX6_isAllowed_88 (by decide) ?_
  exact m_iret' S hr hlk rfl hM hS h dX6_isAllowed_92
set_option maxHeartbeats 4000000 in
theorem metX6_isAllowed {l : Launch} {G : mG} {b : Nat} {σ : MS} {a1 : Int32} {x : Int32} (h : fX6_isAllowed σ a1 = some x) : Met l yX6_isAllowed (ws_ yX6_isAllowed cX6_isAllowed 2 (some .boolean)) rmX6_isAllowed (mP G b σ [.ref b, .int a1]) (mQi G b (σ, x)) 0 0 (mB b) := by
  refine m_entry (by decide) rfl (Nat.le_of_ble_eq_true rfl) ?_
  intro p e s m below meth c S hr hlk hK hM hS ls hl
  replace hl : lv_has ls 2 [(0, .ref b), (1, .int a1)] := hl
  obtain ⟨hx, hb, hml, hown, hts⟩ := id S
  unfold fX6_isAllowed at h
  refine lv_aload_n hx hb dX6_isAllowed_0 rfl (lv_at hl 0 rfl) ?_
  refine m_get S hK hM 53 (Nat.le_of_ble_eq_true rfl) q1785 (v := .int (σ.1 53)) rfl dX6_isAllowed_1 ?_
  by_cases c2 : (σ.1 53) = 0
  · replace h := it c2 h
    refine lv_tableIn (off := 28) (tgt := 32) hx hb dX6_isAllowed_4 (by rw [c2]; decide) (by rw [c2]; decide) (by rw [c2]; rfl) (by decide) ?_
    refine lv_iload_n hx hb dX6_isAllowed_32 rfl (lv_at hl 1 rfl) ?_
    refine lv_iconst (v := (3 : Int32)) hx hb dX6_isAllowed_33 (by decide) ?_
    refine lv_icmp_ge (tgt := 41) hx hb dX6_isAllowed_34 (by decide) (fun c1 => ?_) (fun c1 => ?_)
    · replace h := it c1 h
      refine lv_iconst (v := (0 : Int32)) hx hb dX6_isAllowed_41 (by decide) ?_
      exact m_iret' S hr hlk rfl hM hS h dX6_isAllowed_42
    replace h := ie c1 h
    refine lv_iconst (v := (1 : Int32)) hx hb dX6_isAllowed_37 (by decide) ?_
    refine lv_goto (tgt := 42) hx hb dX6_isAllowed_38 (by decide) ?_
    exact m_iret' S hr hlk rfl hM hS h dX6_isAllowed_42
  replace h := ie c2 h
  by_cases c4 : (σ.1 53) = 1
  · replace h := it c4 h
    refine lv_tableIn (off := 39) (tgt := 43) hx hb dX6_isAllowed_4 (by rw [c4]; decide) (by rw [c4]; decide) (by rw [c4]; rfl) (by decide) ?_
    refine lv_iload_n hx hb dX6_isAllowed_43 rfl (lv_at hl 1 rfl) ?_
    refine lv_iconst (v := (2 : Int32)) hx hb dX6_isAllowed_44 (by decide) ?_
    refine lv_icmp_ge (tgt := 52) hx hb dX6_isAllowed_45 (by decide) (fun c3 => ?_) (fun c3 => ?_)
    · replace h := it c3 h
      refine lv_iconst (v := (0 : Int32)) hx hb dX6_isAllowed_52 (by decide) ?_
      exact m_iret' S hr hlk rfl hM hS h dX6_isAllowed_53
    replace h := ie c3 h
    refine lv_iconst (v := (1 : Int32)) hx hb dX6_isAllowed_48 (by decide) ?_
    refine lv_goto (tgt := 53) hx hb dX6_isAllowed_49 (by decide) ?_
    exact m_iret' S hr hlk rfl hM hS h dX6_isAllowed_53
  replace h := ie c4 h
  by_cases c8 : (σ.1 53) = 2
  · replace h := it c8 h
    refine lv_tableIn (off := 50) (tgt := 54) hx hb dX6_isAllowed_4 (by rw [c8]; decide) (by rw [c8]; decide) (by rw [c8]; rfl) (by decide) ?_
    refine lv_iload_n hx hb dX6_isAllowed_54 rfl (lv_at hl 1 rfl) ?_
    refine lv_if_eq (tgt := 72) hx hb dX6_isAllowed_55 (by decide) (fun c5 => ?_) (fun c5 => ?_)
    · replace h := it c5 h
      exact wX6_isAllowed_72 S hr hlk hK h _ _ hM hS _ (lv_sub hl [0] rfl)
    replace h := ie c5 h
    refine lv_iload_n hx hb dX6_isAllowed_58 rfl (lv_at hl 1 rfl) ?_
    refine lv_i2l (v := a1.toInt64) hx hb dX6_isAllowed_59 rfl ?_
    refine lv_ldc2 hx hb hown (hts _ q2181) dX6_isAllowed_60 ?_
    refine lv_ldc2 hx hb hown (hts _ q2182) dX6_isAllowed_63 ?_
    replace h := ob h
    obtain ⟨x6, hx6, h⟩ := h
    refine kX6_isIn S hK hM hS hx6 ⟨Nat.le_of_ble_eq_true rfl, Nat.le_of_ble_eq_true rfl⟩ hl.1 (Nat.le_of_ble_eq_true rfl) dX6_isAllowed_66 (fun H locs hM hS => ?_)
    refine lv_if_eq (tgt := 76) hx hb dX6_isAllowed_69 (by decide) (fun c7 => ?_) (fun c7 => ?_)
    rotate_left 1
    · replace h := ie c7 h
      exact wX6_isAllowed_72 S hr hlk hK h _ _ hM hS _ (lv_sub hl [0] rfl)
    replace h := it c7 h
    refine lv_iconst (v := (0 : Int32)) hx hb dX6_isAllowed_76 (by decide) ?_
    exact m_iret' S hr hlk rfl hM hS h dX6_isAllowed_77
  replace h := ie c8 h
  refine lv_tableOut (tgt := 78) hx hb dX6_isAllowed_4 (sw_out0_3 c2 c4 c8) (by decide) ?_
  refine lv_iload_n hx hb dX6_isAllowed_78 rfl (lv_at hl 1 rfl) ?_
  refine lv_if_eq (tgt := 87) hx hb dX6_isAllowed_79 (by decide) (fun c9 => ?_) (fun c9 => ?_)
  · replace h := it c9 h
    exact wX6_isAllowed_87 S hr hlk hK h _ _ hM hS _ (lv_sub hl [0] rfl)
  replace h := ie c9 h
  refine lv_iload_n hx hb dX6_isAllowed_82 rfl (lv_at hl 1 rfl) ?_
  refine lv_iconst (v := (2 : Int32)) hx hb dX6_isAllowed_83 (by decide) ?_
  refine lv_icmp_le (tgt := 91) hx hb dX6_isAllowed_84 (by decide) (fun c10 => ?_) (fun c10 => ?_)
  rotate_left 1
  · replace h := ie c10 h
    exact wX6_isAllowed_87 S hr hlk hK h _ _ hM hS _ (lv_sub hl [0] rfl)
  replace h := it c10 h
  refine lv_iconst (v := (0 : Int32)) hx hb dX6_isAllowed_91 (by decide) ?_
  exact m_iret' S hr hlk rfl hM hS h dX6_isAllowed_92
theorem kX6_isAllowed {p : Program} {l : Launch} {e : Env} {R : Room} {s : State} {m : MethodId} {args : Array Value} {below : List Frame} {meth : Method} {c : Code} {H H0 : Heap} {locs : List Loc} {Q : State → Prop} {cc : ByteArray} {nL pc : Nat} {ls : Array Slot} {rest : List Value} {G : mG} {b : Nat} {σ : MS} {a1 : Int32} {x : Int32} (S : CallFix p m c cc nL s args lw_all RX6) (hK : mK G s) (hM : MW G b σ H) (hS : va_S (mB b) H0 H locs) (hf : fX6_isAllowed σ a1 = some x) (hR : rmX6_isAllowed.frames + 1 ≤ R.frames ∧ 8 + (2 + 11) + rmX6_isAllowed.locals ≤ R.locals) (hsize : ls.size = nL) (hr : (rest.map fun v => v.category).sum ≤ 8) (hdg : decode cc pc = .ok (.invokevirtual 607, 3)) (kk : ∀ (H1 : Heap) (locs1 : List Loc), MW G b σ H1 → va_S (mB b) H0 H1 locs1 → W p l e R s m args below meth c H1 locs1 0 0 Q (F0 m (pc + 3) ls (.int x :: rest))) : W p l e R s m args below meth c H locs 0 0 Q (F0 m pc ls (.int a1 :: .ref b :: rest)) :=
  m_cVi (As := [.int a1]) S hK hM hS (metX6_isAllowed hf) (cwV 1 S.2.2.2.2 (lw_V q2177 q2179 qs93 q179 q2180) rfl rfl rfl (by decide +kernel) hR) ⟨Nat.zero_le _, Nat.zero_le _⟩ rfl hsize rfl hr hdg kk
/-! qWordHere()I -/
abbrev rmX6_qWordHere : Room := { frames := 3, cells := 0, slots := 0, locals := 43 }
def fX6_qWordHere (σ : MS) : Option (MS × Int32) :=
  (fX6_isHere σ 83).bind fun x1 =>
  if x1.2 = 0 then
    (fX6_isHere x1.1 84).bind fun x3 =>
    if x3.2 = 0 then
      (fX6_isHere x3.1 85).bind fun x5 =>
      if x5.2 = 0 then
        (fX6_isHere x5.1 86).bind fun x7 =>
        if x7.2 = 0 then
          (fX6_isHere x7.1 87).bind fun x9 =>
          if x9.2 = 0 then
            (fX6_isHere x9.1 88).bind fun x11 =>
            if x11.2 = 0 then
              (fX6_isHere x11.1 89).bind fun x13 =>
              if x13.2 = 0 then
                (fX6_isHere x13.1 90).bind fun x15 =>
                if x15.2 = 0 then
                  some (x15.1, (-1 : Int32))
                else
                some (x15.1, (7 : Int32))
              else
              some (x13.1, (6 : Int32))
            else
            some (x11.1, (5 : Int32))
          else
          some (x9.1, (4 : Int32))
        else
        some (x7.1, (3 : Int32))
      else
      if (x5.1.1 53) = (3 : Int32) then
        some (x5.1, (8 : Int32))
      else
      some (x5.1, (2 : Int32))
    else
    some (x3.1, (1 : Int32))
  else
  some (x1.1, (0 : Int32))
set_option maxHeartbeats 4000000 in
theorem metX6_qWordHere {l : Launch} {G : mG} {b : Nat} {σ : MS} {x : MS × Int32} (h : fX6_qWordHere σ = some x) : Met l yX6_qWordHere (ws_ yX6_qWordHere cX6_qWordHere 1 (some .int)) rmX6_qWordHere (mP G b σ [.ref b]) (mQi G b x) 0 0 (mB b) := by
  refine m_entry (by decide) rfl (Nat.le_of_ble_eq_true rfl) ?_
  intro p e s m below meth c S hr hlk hK hM hS ls hl
  replace hl : lv_has ls 1 [(0, .ref b)] := hl
  obtain ⟨hx, hb, hml, hown, hts⟩ := id S
  unfold fX6_qWordHere at h
  refine lv_aload_n hx hb dX6_qWordHere_0 rfl (lv_at hl 0 rfl) ?_
  refine lv_aload_n hx hb dX6_qWordHere_1 rfl (lv_at hl 0 rfl) ?_
  refine m_get S hK hM 83 (Nat.le_of_ble_eq_true rfl) q1815 (v := .ref (ma b 83)) rfl dX6_qWordHere_2 ?_
  replace h := ob h
  obtain ⟨x1, hx1, h⟩ := h
  refine kX6_isHere S hK hM hS hx1 ⟨Nat.le_of_ble_eq_true rfl, Nat.le_of_ble_eq_true rfl⟩ hl.1 (Nat.le_of_ble_eq_true rfl) dX6_qWordHere_5 (fun H locs hM hS => ?_)
  refine lv_if_eq (tgt := 13) hx hb dX6_qWordHere_8 (by decide) (fun c2 => ?_) (fun c2 => ?_)
  rotate_left 1
  · replace h := ie c2 h
    refine lv_iconst (v := (0 : Int32)) hx hb dX6_qWordHere_11 (by decide) ?_
    exact m_iret S hr hlk rfl hM hS h dX6_qWordHere_12
  replace h := it c2 h
  refine lv_aload_n hx hb dX6_qWordHere_13 rfl (lv_at hl 0 rfl) ?_
  refine lv_aload_n hx hb dX6_qWordHere_14 rfl (lv_at hl 0 rfl) ?_
  refine m_get S hK hM 84 (Nat.le_of_ble_eq_true rfl) q1816 (v := .ref (ma b 84)) rfl dX6_qWordHere_15 ?_
  replace h := ob h
  obtain ⟨x3, hx3, h⟩ := h
  refine kX6_isHere S hK hM hS hx3 ⟨Nat.le_of_ble_eq_true rfl, Nat.le_of_ble_eq_true rfl⟩ hl.1 (Nat.le_of_ble_eq_true rfl) dX6_qWordHere_18 (fun H locs hM hS => ?_)
  refine lv_if_eq (tgt := 26) hx hb dX6_qWordHere_21 (by decide) (fun c4 => ?_) (fun c4 => ?_)
  rotate_left 1
  · replace h := ie c4 h
    refine lv_iconst (v := (1 : Int32)) hx hb dX6_qWordHere_24 (by decide) ?_
    exact m_iret S hr hlk rfl hM hS h dX6_qWordHere_25
  replace h := it c4 h
  refine lv_aload_n hx hb dX6_qWordHere_26 rfl (lv_at hl 0 rfl) ?_
  refine lv_aload_n hx hb dX6_qWordHere_27 rfl (lv_at hl 0 rfl) ?_
  refine m_get S hK hM 85 (Nat.le_of_ble_eq_true rfl) q1817 (v := .ref (ma b 85)) rfl dX6_qWordHere_28 ?_
  replace h := ob h
  obtain ⟨x5, hx5, h⟩ := h
  refine kX6_isHere S hK hM hS hx5 ⟨Nat.le_of_ble_eq_true rfl, Nat.le_of_ble_eq_true rfl⟩ hl.1 (Nat.le_of_ble_eq_true rfl) dX6_qWordHere_31 (fun H locs hM hS => ?_)
  refine lv_if_eq (tgt := 52) hx hb dX6_qWordHere_34 (by decide) (fun c6 => ?_) (fun c6 => ?_)
  rotate_left 1
  · replace h := ie c6 h
    refine lv_aload_n hx hb dX6_qWordHere_37 rfl (lv_at hl 0 rfl) ?_
    refine m_get S hK hM 53 (Nat.le_of_ble_eq_true rfl) q1785 (v := .int (x5.1.1 53)) rfl dX6_qWordHere_38 ?_
    refine lv_iconst (v := (3 : Int32)) hx hb dX6_qWordHere_41 (by decide) ?_
    refine lv_icmp_ne (tgt := 50) hx hb dX6_qWordHere_42 (by decide) (fun c17 => ?_) (fun c17 => ?_)
    · replace h := ie c17 h
      refine lv_iconst (v := (2 : Int32)) hx hb dX6_qWordHere_50 (by decide) ?_
      exact m_iret S hr hlk rfl hM hS h dX6_qWordHere_51
    replace h := it c17 h
    refine lv_bipush (v := (8 : Int32)) hx hb dX6_qWordHere_45 (by decide) ?_
    refine lv_goto (tgt := 51) hx hb dX6_qWordHere_47 (by decide) ?_
    exact m_iret S hr hlk rfl hM hS h dX6_qWordHere_51
  replace h := it c6 h
  refine lv_aload_n hx hb dX6_qWordHere_52 rfl (lv_at hl 0 rfl) ?_
  refine lv_aload_n hx hb dX6_qWordHere_53 rfl (lv_at hl 0 rfl) ?_
  refine m_get S hK hM 86 (Nat.le_of_ble_eq_true rfl) q1818 (v := .ref (ma b 86)) rfl dX6_qWordHere_54 ?_
  replace h := ob h
  obtain ⟨x7, hx7, h⟩ := h
  refine kX6_isHere S hK hM hS hx7 ⟨Nat.le_of_ble_eq_true rfl, Nat.le_of_ble_eq_true rfl⟩ hl.1 (Nat.le_of_ble_eq_true rfl) dX6_qWordHere_57 (fun H locs hM hS => ?_)
  refine lv_if_eq (tgt := 65) hx hb dX6_qWordHere_60 (by decide) (fun c8 => ?_) (fun c8 => ?_)
  rotate_left 1
  · replace h := ie c8 h
    refine lv_iconst (v := (3 : Int32)) hx hb dX6_qWordHere_63 (by decide) ?_
    exact m_iret S hr hlk rfl hM hS h dX6_qWordHere_64
  replace h := it c8 h
  refine lv_aload_n hx hb dX6_qWordHere_65 rfl (lv_at hl 0 rfl) ?_
  refine lv_aload_n hx hb dX6_qWordHere_66 rfl (lv_at hl 0 rfl) ?_
  refine m_get S hK hM 87 (Nat.le_of_ble_eq_true rfl) q1819 (v := .ref (ma b 87)) rfl dX6_qWordHere_67 ?_
  replace h := ob h
  obtain ⟨x9, hx9, h⟩ := h
  refine kX6_isHere S hK hM hS hx9 ⟨Nat.le_of_ble_eq_true rfl, Nat.le_of_ble_eq_true rfl⟩ hl.1 (Nat.le_of_ble_eq_true rfl) dX6_qWordHere_70 (fun H locs hM hS => ?_)
  refine lv_if_eq (tgt := 78) hx hb dX6_qWordHere_73 (by decide) (fun c10 => ?_) (fun c10 => ?_)
  rotate_left 1
  · replace h := ie c10 h
    refine lv_iconst (v := (4 : Int32)) hx hb dX6_qWordHere_76 (by decide) ?_
    exact m_iret S hr hlk rfl hM hS h dX6_qWordHere_77
  replace h := it c10 h
  refine lv_aload_n hx hb dX6_qWordHere_78 rfl (lv_at hl 0 rfl) ?_
  refine lv_aload_n hx hb dX6_qWordHere_79 rfl (lv_at hl 0 rfl) ?_
  refine m_get S hK hM 88 (Nat.le_of_ble_eq_true rfl) q1820 (v := .ref (ma b 88)) rfl dX6_qWordHere_80 ?_
  replace h := ob h
  obtain ⟨x11, hx11, h⟩ := h
  refine kX6_isHere S hK hM hS hx11 ⟨Nat.le_of_ble_eq_true rfl, Nat.le_of_ble_eq_true rfl⟩ hl.1 (Nat.le_of_ble_eq_true rfl) dX6_qWordHere_83 (fun H locs hM hS => ?_)
  refine lv_if_eq (tgt := 91) hx hb dX6_qWordHere_86 (by decide) (fun c12 => ?_) (fun c12 => ?_)
  rotate_left 1
  · replace h := ie c12 h
    refine lv_iconst (v := (5 : Int32)) hx hb dX6_qWordHere_89 (by decide) ?_
    exact m_iret S hr hlk rfl hM hS h dX6_qWordHere_90
  replace h := it c12 h
  refine lv_aload_n hx hb dX6_qWordHere_91 rfl (lv_at hl 0 rfl) ?_
  refine lv_aload_n hx hb dX6_qWordHere_92 rfl (lv_at hl 0 rfl) ?_
  refine m_get S hK hM 89 (Nat.le_of_ble_eq_true rfl) q1821 (v := .ref (ma b 89)) rfl dX6_qWordHere_93 ?_
  replace h := ob h
  obtain ⟨x13, hx13, h⟩ := h
  refine kX6_isHere S hK hM hS hx13 ⟨Nat.le_of_ble_eq_true rfl, Nat.le_of_ble_eq_true rfl⟩ hl.1 (Nat.le_of_ble_eq_true rfl) dX6_qWordHere_96 (fun H locs hM hS => ?_)
  refine lv_if_eq (tgt := 105) hx hb dX6_qWordHere_99 (by decide) (fun c14 => ?_) (fun c14 => ?_)
  rotate_left 1
  · replace h := ie c14 h
    refine lv_bipush (v := (6 : Int32)) hx hb dX6_qWordHere_102 (by decide) ?_
    exact m_iret S hr hlk rfl hM hS h dX6_qWordHere_104
  replace h := it c14 h
  refine lv_aload_n hx hb dX6_qWordHere_105 rfl (lv_at hl 0 rfl) ?_
  refine lv_aload_n hx hb dX6_qWordHere_106 rfl (lv_at hl 0 rfl) ?_
  refine m_get S hK hM 90 (Nat.le_of_ble_eq_true rfl) q1822 (v := .ref (ma b 90)) rfl dX6_qWordHere_107 ?_
  replace h := ob h
  obtain ⟨x15, hx15, h⟩ := h
  refine kX6_isHere S hK hM hS hx15 ⟨Nat.le_of_ble_eq_true rfl, Nat.le_of_ble_eq_true rfl⟩ hl.1 (Nat.le_of_ble_eq_true rfl) dX6_qWordHere_110 (fun H locs hM hS => ?_)
  refine lv_if_eq (tgt := 119) hx hb dX6_qWordHere_113 (by decide) (fun c16 => ?_) (fun c16 => ?_)
  · replace h := it c16 h
    refine lv_iconst (v := (-1 : Int32)) hx hb dX6_qWordHere_119 (by decide) ?_
    exact m_iret S hr hlk rfl hM hS h dX6_qWordHere_120
  replace h := ie c16 h
  refine lv_bipush (v := (7 : Int32)) hx hb dX6_qWordHere_116 (by decide) ?_
  exact m_iret S hr hlk rfl hM hS h dX6_qWordHere_118
theorem kX6_qWordHere {p : Program} {l : Launch} {e : Env} {R : Room} {s : State} {m : MethodId} {args : Array Value} {below : List Frame} {meth : Method} {c : Code} {H H0 : Heap} {locs : List Loc} {Q : State → Prop} {cc : ByteArray} {nL pc : Nat} {ls : Array Slot} {rest : List Value} {G : mG} {b : Nat} {σ : MS} {x : MS × Int32} (S : CallFix p m c cc nL s args lw_all RX6) (hK : mK G s) (hM : MW G b σ H) (hS : va_S (mB b) H0 H locs) (hf : fX6_qWordHere σ = some x) (hR : rmX6_qWordHere.frames + 1 ≤ R.frames ∧ 8 + (1 + 11) + rmX6_qWordHere.locals ≤ R.locals) (hsize : ls.size = nL) (hr : (rest.map fun v => v.category).sum ≤ 8) (hdg : decode cc pc = .ok (.invokevirtual 604, 3)) (kk : ∀ (H1 : Heap) (locs1 : List Loc), MW G b x.1 H1 → va_S (mB b) H0 H1 locs1 → W p l e R s m args below meth c H1 locs1 0 0 Q (F0 m (pc + 3) ls (.int x.2 :: rest))) : W p l e R s m args below meth c H locs 0 0 Q (F0 m pc ls (.ref b :: rest)) :=
  m_cVi (As := []) S hK hM hS (metX6_qWordHere hf) (cwV 0 S.2.2.2.2 (lw_V q2173 q2175 qs92 q179 q2176) rfl rfl rfl (by decide +kernel) hR) ⟨Nat.zero_le _, Nat.zero_le _⟩ rfl hsize rfl hr hdg kk
/-! qWordOf(II)I -/
abbrev rmX6_qWordOf : Room := { frames := 4, cells := 0, slots := 0, locals := 63 }
def fX6_qWordOf (σ : MS) (a1 : Int32) (a2 : Int32) : Option (MS × Int32) :=
  (fX6_qWordHere σ).bind fun x1 =>
  if x1.2 < a1 then
    some (x1.1, (-1 : Int32))
  else
  if a2 ≤ x1.2 then
    some (x1.1, (-1 : Int32))
  else
  (fX6_isAllowed x1.1 x1.2).bind fun x4 =>
  if x4 = 0 then
    some (x1.1, (-1 : Int32))
  else
  some (x1.1, x1.2)
set_option maxHeartbeats 4000000 in
theorem metX6_qWordOf {l : Launch} {G : mG} {b : Nat} {σ : MS} {a1 : Int32} {a2 : Int32} {x : MS × Int32} (h : fX6_qWordOf σ a1 a2 = some x) : Met l yX6_qWordOf (ws_ yX6_qWordOf cX6_qWordOf 4 (some .int)) rmX6_qWordOf (mP G b σ [.ref b, .int a1, .int a2]) (mQi G b x) 0 0 (mB b) := by
  refine m_entry (by decide) rfl (Nat.le_of_ble_eq_true rfl) ?_
  intro p e s m below meth c S hr hlk hK hM hS ls hl
  replace hl : lv_has ls 4 [(0, .ref b), (1, .int a1), (2, .int a2)] := hl
  obtain ⟨hx, hb, hml, hown, hts⟩ := id S
  unfold fX6_qWordOf at h
  refine lv_aload_n hx hb dX6_qWordOf_0 rfl (lv_at hl 0 rfl) ?_
  replace h := ob h
  obtain ⟨x1, hx1, h⟩ := h
  refine kX6_qWordHere S hK hM hS hx1 ⟨Nat.le_of_ble_eq_true rfl, Nat.le_of_ble_eq_true rfl⟩ hl.1 (Nat.le_of_ble_eq_true rfl) dX6_qWordOf_1 (fun H locs hM hS => ?_)
  refine lv_istore_n (lv' := [(3, .int x1.2), (0, .ref b), (1, .int a1), (2, .int a2)]) hx hb dX6_qWordOf_4 rfl hl (by decide) rfl (fun ls hl => ?_)
  refine lv_iload_n hx hb dX6_qWordOf_5 rfl (lv_at hl 0 rfl) ?_
  refine lv_iload_n hx hb dX6_qWordOf_6 rfl (lv_at hl 2 rfl) ?_
  refine lv_icmp_lt (tgt := 27) hx hb dX6_qWordOf_7 (by decide) (fun c2 => ?_) (fun c2 => ?_)
  · replace h := it c2 h
    refine lv_iconst (v := (-1 : Int32)) hx hb dX6_qWordOf_27 (by decide) ?_
    exact m_iret S hr hlk rfl hM hS h dX6_qWordOf_28
  replace h := ie c2 h
  refine lv_iload_n hx hb dX6_qWordOf_10 rfl (lv_at hl 0 rfl) ?_
  refine lv_iload_n hx hb dX6_qWordOf_11 rfl (lv_at hl 3 rfl) ?_
  refine lv_icmp_ge (tgt := 27) hx hb dX6_qWordOf_12 (by decide) (fun c3 => ?_) (fun c3 => ?_)
  · replace h := it c3 h
    refine lv_iconst (v := (-1 : Int32)) hx hb dX6_qWordOf_27 (by decide) ?_
    exact m_iret S hr hlk rfl hM hS h dX6_qWordOf_28
  replace h := ie c3 h
  refine lv_aload_n hx hb dX6_qWordOf_15 rfl (lv_at hl 1 rfl) ?_
  refine lv_iload_n hx hb dX6_qWordOf_16 rfl (lv_at hl 0 rfl) ?_
  replace h := ob h
  obtain ⟨x4, hx4, h⟩ := h
  refine kX6_isAllowed S hK hM hS hx4 ⟨Nat.le_of_ble_eq_true rfl, Nat.le_of_ble_eq_true rfl⟩ hl.1 (Nat.le_of_ble_eq_true rfl) dX6_qWordOf_17 (fun H locs hM hS => ?_)
  refine lv_if_eq (tgt := 27) hx hb dX6_qWordOf_20 (by decide) (fun c5 => ?_) (fun c5 => ?_)
  · replace h := it c5 h
    refine lv_iconst (v := (-1 : Int32)) hx hb dX6_qWordOf_27 (by decide) ?_
    exact m_iret S hr hlk rfl hM hS h dX6_qWordOf_28
  replace h := ie c5 h
  refine lv_iload_n hx hb dX6_qWordOf_23 rfl (lv_at hl 0 rfl) ?_
  refine lv_goto (tgt := 28) hx hb dX6_qWordOf_24 (by decide) ?_
  exact m_iret S hr hlk rfl hM hS h dX6_qWordOf_28
theorem kX6_qWordOf {p : Program} {l : Launch} {e : Env} {R : Room} {s : State} {m : MethodId} {args : Array Value} {below : List Frame} {meth : Method} {c : Code} {H H0 : Heap} {locs : List Loc} {Q : State → Prop} {cc : ByteArray} {nL pc : Nat} {ls : Array Slot} {rest : List Value} {G : mG} {b : Nat} {σ : MS} {a1 : Int32} {a2 : Int32} {x : MS × Int32} (S : CallFix p m c cc nL s args lw_all RX6) (hK : mK G s) (hM : MW G b σ H) (hS : va_S (mB b) H0 H locs) (hf : fX6_qWordOf σ a1 a2 = some x) (hR : rmX6_qWordOf.frames + 1 ≤ R.frames ∧ 8 + (4 + 11) + rmX6_qWordOf.locals ≤ R.locals) (hsize : ls.size = nL) (hr : (rest.map fun v => v.category).sum ≤ 8) (hdg : decode cc pc = .ok (.invokevirtual 610, 3)) (kk : ∀ (H1 : Heap) (locs1 : List Loc), MW G b x.1 H1 → va_S (mB b) H0 H1 locs1 → W p l e R s m args below meth c H1 locs1 0 0 Q (F0 m (pc + 3) ls (.int x.2 :: rest))) : W p l e R s m args below meth c H locs 0 0 Q (F0 m pc ls (.int a2 :: .int a1 :: .ref b :: rest)) :=
  m_cVi (As := [.int a1, .int a2]) S hK hM hS (metX6_qWordOf hf) (cwV 2 S.2.2.2.2 (lw_V q2169 q2171 qs91 q179 q2172) rfl rfl rfl (by decide +kernel) hR) ⟨Nat.zero_le _, Nat.zero_le _⟩ rfl hsize rfl hr hdg kk

set_option maxRecDepth 100000
/-! suggestedTo(I)I -/
abbrev rmX6_suggestedTo : Room := { frames := 6, cells := 0, slots := 0, locals := 114 }
def fX6_suggestedTo_54 (k11 : MS → Int32 → Int32 → Int32 → Option (MS × Int32)) (σ : MS) (a2 : Int32) (a3 : Int32) (a4 : Int32) : Option (MS × Int32) :=
  k11 σ a2 a3 (a4 + (1 : Int32))
def fX6_suggestedTo_51 (k11 : MS → Int32 → Int32 → Int32 → Option (MS × Int32)) (σ : MS) (a2 : Int32) (a4 : Int32) : Option (MS × Int32) :=
  fX6_suggestedTo_54 k11 σ a2 a4 a4
def fX6_suggestedTo_11 : Nat → MS → Int32 → Int32 → Int32 → Option (MS × Int32)
  | 0, _, _, _, _ => none
  | n + 1, σ, a2, a3, a4 =>
    (fX6_filmMany σ).bind fun x1 =>
    if x1 ≤ a4 then
      some (σ, a3)
    else
    (fX6_may σ a2 a4).bind fun x3 =>
    if x3.2 = 0 then
      fX6_suggestedTo_54 (fun σ' b2 b3 b4 => fX6_suggestedTo_11 n σ' b2 b3 b4) x3.1 a2 a3 a4
    else
    if a3 = (-1 : Int32) then
      fX6_suggestedTo_51 (fun σ' b2 b3 b4 => fX6_suggestedTo_11 n σ' b2 b3 b4) x3.1 a2 a4
    else
    (fX6_scoreOf x3.1 a2 a4).bind fun x6 =>
    (fX6_scoreOf x3.1 a2 a3).bind fun x7 =>
    if x6 ≤ x7 then
      fX6_suggestedTo_54 (fun σ' b2 b3 b4 => fX6_suggestedTo_11 n σ' b2 b3 b4) x3.1 a2 a3 a4
    else
    fX6_suggestedTo_51 (fun σ' b2 b3 b4 => fX6_suggestedTo_11 n σ' b2 b3 b4) x3.1 a2 a4
def fX6_suggestedTo (σ : MS) (a1 : Int32) : Option (MS × Int32) :=
  (fX6_profileOf σ a1).bind fun x1 =>
  fX6_suggestedTo_11 FU σ x1 (-1 : Int32) (0 : Int32)
set_option maxHeartbeats 4000000 in
theorem wX6_suggestedTo_54 {p : Program} {l : Launch} {e : Env} {s : State} {m : MethodId} {args : Array Value} {below : List Frame} {meth : Method} {c : Code} {G : mG} {b : Nat} (S : CallFix p m c cX6_suggestedTo 5 s args lw_all RX6) (hr : meth.sig.returnType = some .int) (hlk : meth.locks = false) (hK : mK G s) {x : MS × Int32} {k11 : MS → Int32 → Int32 → Int32 → Option (MS × Int32)} (hk11 : ∀ σ a2 a3 a4, k11 σ a2 a3 a4 = some x → mGo p l e rmX6_suggestedTo s m args below meth c G b (MQ below (mQi G b x) args s 0 0 (mB b)) 5 11 [(0, .ref b), (2, .int a2), (3, .int a3), (4, .int a4)] [] σ) : ∀ (σ : MS) (a2 : Int32) (a3 : Int32) (a4 : Int32), fX6_suggestedTo_54 k11 σ a2 a3 a4 = some x → mGo p l e rmX6_suggestedTo s m args below meth c G b (MQ below (mQi G b x) args s 0 0 (mB b)) 5 54 [(0, .ref b), (2, .int a2), (3, .int a3), (4, .int a4)] [] σ := by
  obtain ⟨hx, hb, hml, hown, hts⟩ := id S
  intro σ a2 a3 a4 h H locs hM hS ls hl
  unfold fX6_suggestedTo_54 at h
  refine lv_iinc (v := (a4 + (1 : Int32))) (lv' := [(4, .int (a4 + (1 : Int32))), (0, .ref b), (2, .int a2), (3, .int a3)]) hx hb dX6_suggestedTo_54 hl (k := 3) rfl rfl (by decide) rfl (fun ls hl => ?_)
  refine lv_goto (tgt := 11) hx hb dX6_suggestedTo_57 (by decide) ?_
  exact hk11 σ a2 a3 (a4 + (1 : Int32)) h _ _ hM hS _ (lv_sub hl [1, 2, 3, 0] rfl)
set_option maxHeartbeats 4000000 in
theorem wX6_suggestedTo_51 {p : Program} {l : Launch} {e : Env} {s : State} {m : MethodId} {args : Array Value} {below : List Frame} {meth : Method} {c : Code} {G : mG} {b : Nat} (S : CallFix p m c cX6_suggestedTo 5 s args lw_all RX6) (hr : meth.sig.returnType = some .int) (hlk : meth.locks = false) (hK : mK G s) {x : MS × Int32} {k11 : MS → Int32 → Int32 → Int32 → Option (MS × Int32)} (hk11 : ∀ σ a2 a3 a4, k11 σ a2 a3 a4 = some x → mGo p l e rmX6_suggestedTo s m args below meth c G b (MQ below (mQi G b x) args s 0 0 (mB b)) 5 11 [(0, .ref b), (2, .int a2), (3, .int a3), (4, .int a4)] [] σ) : ∀ (σ : MS) (a2 : Int32) (a4 : Int32), fX6_suggestedTo_51 k11 σ a2 a4 = some x → mGo p l e rmX6_suggestedTo s m args below meth c G b (MQ below (mQi G b x) args s 0 0 (mB b)) 5 51 [(0, .ref b), (2, .int a2), (4, .int a4)] [] σ := by
  obtain ⟨hx, hb, hml, hown, hts⟩ := id S
  intro σ a2 a4 h H locs hM hS ls hl
  unfold fX6_suggestedTo_51 at h
  refine lv_iload hx hb dX6_suggestedTo_51 (lv_at hl 2 rfl) ?_
  refine lv_istore_n (lv' := [(3, .int a4), (0, .ref b), (2, .int a2), (4, .int a4)]) hx hb dX6_suggestedTo_53 rfl hl (by decide) rfl (fun ls hl => ?_)
  exact wX6_suggestedTo_54 S hr hlk hK hk11 σ a2 a4 a4 h _ _ hM hS _ (lv_sub hl [1, 2, 0, 3] rfl)
set_option maxHeartbeats 4000000 in
theorem wX6_suggestedTo_11 {p : Program} {l : Launch} {e : Env} {s : State} {m : MethodId} {args : Array Value} {below : List Frame} {meth : Method} {c : Code} {G : mG} {b : Nat} (S : CallFix p m c cX6_suggestedTo 5 s args lw_all RX6) (hr : meth.sig.returnType = some .int) (hlk : meth.locks = false) (hK : mK G s) {x : MS × Int32} : ∀ (n : Nat) (σ : MS) (a2 : Int32) (a3 : Int32) (a4 : Int32), fX6_suggestedTo_11 n σ a2 a3 a4 = some x → mGo p l e rmX6_suggestedTo s m args below meth c G b (MQ below (mQi G b x) args s 0 0 (mB b)) 5 11 [(0, .ref b), (2, .int a2), (3, .int a3), (4, .int a4)] [] σ := by
  obtain ⟨hx, hb, hml, hown, hts⟩ := id S
  intro n
  induction n with
  | zero => intro σ a2 a3 a4 h; cases h
  | succ n ih =>
    intro σ a2 a3 a4 h H locs hM hS ls hl
    rw [fX6_suggestedTo_11] at h
    refine lv_iload hx hb dX6_suggestedTo_11 (lv_at hl 3 rfl) ?_
    refine lv_aload_n hx hb dX6_suggestedTo_13 rfl (lv_at hl 0 rfl) ?_
    replace h := ob h
    obtain ⟨x1, hx1, h⟩ := h
    refine kX6_filmMany S hK hM hS hx1 ⟨Nat.le_of_ble_eq_true rfl, Nat.le_of_ble_eq_true rfl⟩ hl.1 (Nat.le_of_ble_eq_true rfl) dX6_suggestedTo_14 (fun H locs hM hS => ?_)
    refine lv_icmp_ge (tgt := 60) hx hb dX6_suggestedTo_17 (by decide) (fun c2 => ?_) (fun c2 => ?_)
    · replace h := it c2 h
      refine lv_iload_n hx hb dX6_suggestedTo_60 rfl (lv_at hl 2 rfl) ?_
      exact m_iret S hr hlk rfl hM hS h dX6_suggestedTo_61
    replace h := ie c2 h
    refine lv_aload_n hx hb dX6_suggestedTo_20 rfl (lv_at hl 0 rfl) ?_
    refine lv_iload_n hx hb dX6_suggestedTo_21 rfl (lv_at hl 1 rfl) ?_
    refine lv_iload hx hb dX6_suggestedTo_22 (lv_at hl 3 rfl) ?_
    replace h := ob h
    obtain ⟨x3, hx3, h⟩ := h
    refine kX6_may S hK hM hS hx3 ⟨Nat.le_of_ble_eq_true rfl, Nat.le_of_ble_eq_true rfl⟩ hl.1 (Nat.le_of_ble_eq_true rfl) dX6_suggestedTo_24 (fun H locs hM hS => ?_)
    refine lv_if_eq (tgt := 54) hx hb dX6_suggestedTo_27 (by decide) (fun c4 => ?_) (fun c4 => ?_)
    · replace h := it c4 h
      exact wX6_suggestedTo_54 S hr hlk hK ih x3.1 a2 a3 a4 h _ _ hM hS _ (lv_sub hl [0, 1, 2, 3] rfl)
    replace h := ie c4 h
    refine lv_iload_n hx hb dX6_suggestedTo_30 rfl (lv_at hl 2 rfl) ?_
    refine lv_iconst (v := (-1 : Int32)) hx hb dX6_suggestedTo_31 (by decide) ?_
    refine lv_icmp_eq (tgt := 51) hx hb dX6_suggestedTo_32 (by decide) (fun c5 => ?_) (fun c5 => ?_)
    · replace h := it c5 h
      exact wX6_suggestedTo_51 S hr hlk hK ih x3.1 a2 a4 h _ _ hM hS _ (lv_sub hl [0, 1, 3] rfl)
    replace h := ie c5 h
    refine lv_aload_n hx hb dX6_suggestedTo_35 rfl (lv_at hl 0 rfl) ?_
    refine lv_iload_n hx hb dX6_suggestedTo_36 rfl (lv_at hl 1 rfl) ?_
    refine lv_iload hx hb dX6_suggestedTo_37 (lv_at hl 3 rfl) ?_
    replace h := ob h
    obtain ⟨x6, hx6, h⟩ := h
    refine kX6_scoreOf S hK hM hS hx6 ⟨Nat.le_of_ble_eq_true rfl, Nat.le_of_ble_eq_true rfl⟩ hl.1 (Nat.le_of_ble_eq_true rfl) dX6_suggestedTo_39 (fun H locs hM hS => ?_)
    refine lv_aload_n hx hb dX6_suggestedTo_42 rfl (lv_at hl 0 rfl) ?_
    refine lv_iload_n hx hb dX6_suggestedTo_43 rfl (lv_at hl 1 rfl) ?_
    refine lv_iload_n hx hb dX6_suggestedTo_44 rfl (lv_at hl 2 rfl) ?_
    replace h := ob h
    obtain ⟨x7, hx7, h⟩ := h
    refine kX6_scoreOf S hK hM hS hx7 ⟨Nat.le_of_ble_eq_true rfl, Nat.le_of_ble_eq_true rfl⟩ hl.1 (Nat.le_of_ble_eq_true rfl) dX6_suggestedTo_45 (fun H locs hM hS => ?_)
    refine lv_icmp_le (tgt := 54) hx hb dX6_suggestedTo_48 (by decide) (fun c8 => ?_) (fun c8 => ?_)
    · replace h := it c8 h
      exact wX6_suggestedTo_54 S hr hlk hK ih x3.1 a2 a3 a4 h _ _ hM hS _ (lv_sub hl [0, 1, 2, 3] rfl)
    replace h := ie c8 h
    exact wX6_suggestedTo_51 S hr hlk hK ih x3.1 a2 a4 h _ _ hM hS _ (lv_sub hl [0, 1, 3] rfl)
set_option maxHeartbeats 4000000 in
theorem metX6_suggestedTo {l : Launch} {G : mG} {b : Nat} {σ : MS} {a1 : Int32} {x : MS × Int32} (h : fX6_suggestedTo σ a1 = some x) : Met l yX6_suggestedTo (ws_ yX6_suggestedTo cX6_suggestedTo 5 (some .int)) rmX6_suggestedTo (mP G b σ [.ref b, .int a1]) (mQi G b x) 0 0 (mB b) := by
  refine m_entry (by decide) rfl (Nat.le_of_ble_eq_true rfl) ?_
  intro p e s m below meth c S hr hlk hK hM hS ls hl
  replace hl : lv_has ls 5 [(0, .ref b), (1, .int a1)] := hl
  obtain ⟨hx, hb, hml, hown, hts⟩ := id S
  unfold fX6_suggestedTo at h
  refine lv_aload_n hx hb dX6_suggestedTo_0 rfl (lv_at hl 0 rfl) ?_
  refine lv_iload_n hx hb dX6_suggestedTo_1 rfl (lv_at hl 1 rfl) ?_
  replace h := ob h
  obtain ⟨x1, hx1, h⟩ := h
  refine kX6_profileOf S hK hM hS hx1 ⟨Nat.le_of_ble_eq_true rfl, Nat.le_of_ble_eq_true rfl⟩ hl.1 (Nat.le_of_ble_eq_true rfl) dX6_suggestedTo_2 (fun H locs hM hS => ?_)
  refine lv_istore_n (lv' := [(2, .int x1), (0, .ref b), (1, .int a1)]) hx hb dX6_suggestedTo_5 rfl hl (by decide) rfl (fun ls hl => ?_)
  refine lv_iconst (v := (-1 : Int32)) hx hb dX6_suggestedTo_6 (by decide) ?_
  refine lv_istore_n (lv' := [(3, .int (-1 : Int32)), (2, .int x1), (0, .ref b), (1, .int a1)]) hx hb dX6_suggestedTo_7 rfl hl (by decide) rfl (fun ls hl => ?_)
  refine lv_iconst (v := (0 : Int32)) hx hb dX6_suggestedTo_8 (by decide) ?_
  refine lv_istore (lv' := [(4, .int (0 : Int32)), (3, .int (-1 : Int32)), (2, .int x1), (0, .ref b), (1, .int a1)]) hx hb dX6_suggestedTo_9 hl (by decide) rfl (fun ls hl => ?_)
  exact wX6_suggestedTo_11 S hr hlk hK FU σ x1 (-1 : Int32) (0 : Int32) h _ _ hM hS _ (lv_sub hl [3, 2, 1, 0] rfl)
theorem kX6_suggestedTo {p : Program} {l : Launch} {e : Env} {R : Room} {s : State} {m : MethodId} {args : Array Value} {below : List Frame} {meth : Method} {c : Code} {H H0 : Heap} {locs : List Loc} {Q : State → Prop} {cc : ByteArray} {nL pc : Nat} {ls : Array Slot} {rest : List Value} {G : mG} {b : Nat} {σ : MS} {a1 : Int32} {x : MS × Int32} (S : CallFix p m c cc nL s args lw_all RX6) (hK : mK G s) (hM : MW G b σ H) (hS : va_S (mB b) H0 H locs) (hf : fX6_suggestedTo σ a1 = some x) (hR : rmX6_suggestedTo.frames + 1 ≤ R.frames ∧ 8 + (5 + 11) + rmX6_suggestedTo.locals ≤ R.locals) (hsize : ls.size = nL) (hr : (rest.map fun v => v.category).sum ≤ 8) (hdg : decode cc pc = .ok (.invokevirtual 484, 3)) (kk : ∀ (H1 : Heap) (locs1 : List Loc), MW G b x.1 H1 → va_S (mB b) H0 H1 locs1 → W p l e R s m args below meth c H1 locs1 0 0 Q (F0 m (pc + 3) ls (.int x.2 :: rest))) : W p l e R s m args below meth c H locs 0 0 Q (F0 m pc ls (.int a1 :: .ref b :: rest)) :=
  m_cVi (As := [.int a1]) S hK hM hS (metX6_suggestedTo hf) (cwV 1 S.2.2.2.2 (lw_V q2342 q2344 qs124 q179 q2345) rfl rfl rfl (by decide +kernel) hR) ⟨Nat.zero_le _, Nat.zero_le _⟩ rfl hsize rfl hr hdg kk
/-! suggest(I)I -/
abbrev rmX6_suggest : Room := { frames := 7, cells := 0, slots := 0, locals := 138 }
def fX6_suggest (σ : MS) (a1 : Int32) : Option (MS × Int32) :=
  (fX6_isPerson σ a1).bind fun x1 =>
  if x1 = 0 then
    some (σ, (-1 : Int32))
  else
  (fX6_suggestedTo σ a1).bind fun x3 =>
  some (x3.1, x3.2)
set_option maxHeartbeats 4000000 in
theorem metX6_suggest {l : Launch} {G : mG} {b : Nat} {σ : MS} {a1 : Int32} {x : MS × Int32} (h : fX6_suggest σ a1 = some x) : Met l yX6_suggest (ws_ yX6_suggest cX6_suggest 2 (some .int)) rmX6_suggest (mP G b σ [.ref b, .int a1]) (mQi G b x) 0 0 (mB b) := by
  refine m_entry (by decide) rfl (Nat.le_of_ble_eq_true rfl) ?_
  intro p e s m below meth c S hr hlk hK hM hS ls hl
  replace hl : lv_has ls 2 [(0, .ref b), (1, .int a1)] := hl
  obtain ⟨hx, hb, hml, hown, hts⟩ := id S
  unfold fX6_suggest at h
  refine lv_aload_n hx hb dX6_suggest_0 rfl (lv_at hl 0 rfl) ?_
  refine lv_iload_n hx hb dX6_suggest_1 rfl (lv_at hl 1 rfl) ?_
  replace h := ob h
  obtain ⟨x1, hx1, h⟩ := h
  refine kX6_isPerson S hK hM hS hx1 ⟨Nat.le_of_ble_eq_true rfl, Nat.le_of_ble_eq_true rfl⟩ hl.1 (Nat.le_of_ble_eq_true rfl) dX6_suggest_2 (fun H locs hM hS => ?_)
  refine lv_if_eq (tgt := 16) hx hb dX6_suggest_5 (by decide) (fun c2 => ?_) (fun c2 => ?_)
  · replace h := it c2 h
    refine lv_iconst (v := (-1 : Int32)) hx hb dX6_suggest_16 (by decide) ?_
    exact m_iret S hr hlk rfl hM hS h dX6_suggest_17
  replace h := ie c2 h
  refine lv_aload_n hx hb dX6_suggest_8 rfl (lv_at hl 0 rfl) ?_
  refine lv_iload_n hx hb dX6_suggest_9 rfl (lv_at hl 1 rfl) ?_
  replace h := ob h
  obtain ⟨x3, hx3, h⟩ := h
  refine kX6_suggestedTo S hK hM hS hx3 ⟨Nat.le_of_ble_eq_true rfl, Nat.le_of_ble_eq_true rfl⟩ hl.1 (Nat.le_of_ble_eq_true rfl) dX6_suggest_10 (fun H locs hM hS => ?_)
  refine lv_goto (tgt := 17) hx hb dX6_suggest_13 (by decide) ?_
  exact m_iret S hr hlk rfl hM hS h dX6_suggest_17
/-! worth(II)I -/
abbrev rmX6_worth : Room := { frames := 3, cells := 0, slots := 0, locals := 46 }
def fX6_worth (σ : MS) (a1 : Int32) (a2 : Int32) : Option (Int32) :=
  (fX6_isPerson σ a1).bind fun x1 =>
  if x1 = 0 then
    some (-1 : Int32)
  else
  (fX6_isFilm σ a2).bind fun x3 =>
  if x3 = 0 then
    some (-1 : Int32)
  else
  (fX6_worthOf σ a1 a2).bind fun x5 =>
  some x5
set_option maxHeartbeats 4000000 in
theorem metX6_worth {l : Launch} {G : mG} {b : Nat} {σ : MS} {a1 : Int32} {a2 : Int32} {x : Int32} (h : fX6_worth σ a1 a2 = some x) : Met l yX6_worth (ws_ yX6_worth cX6_worth 3 (some .int)) rmX6_worth (mP G b σ [.ref b, .int a1, .int a2]) (mQi G b (σ, x)) 0 0 (mB b) := by
  refine m_entry (by decide) rfl (Nat.le_of_ble_eq_true rfl) ?_
  intro p e s m below meth c S hr hlk hK hM hS ls hl
  replace hl : lv_has ls 3 [(0, .ref b), (1, .int a1), (2, .int a2)] := hl
  obtain ⟨hx, hb, hml, hown, hts⟩ := id S
  unfold fX6_worth at h
  refine lv_aload_n hx hb dX6_worth_0 rfl (lv_at hl 0 rfl) ?_
  refine lv_iload_n hx hb dX6_worth_1 rfl (lv_at hl 1 rfl) ?_
  replace h := ob h
  obtain ⟨x1, hx1, h⟩ := h
  refine kX6_isPerson S hK hM hS hx1 ⟨Nat.le_of_ble_eq_true rfl, Nat.le_of_ble_eq_true rfl⟩ hl.1 (Nat.le_of_ble_eq_true rfl) dX6_worth_2 (fun H locs hM hS => ?_)
  refine lv_if_eq (tgt := 25) hx hb dX6_worth_5 (by decide) (fun c2 => ?_) (fun c2 => ?_)
  · replace h := it c2 h
    refine lv_iconst (v := (-1 : Int32)) hx hb dX6_worth_25 (by decide) ?_
    exact m_iret' S hr hlk rfl hM hS h dX6_worth_26
  replace h := ie c2 h
  refine lv_aload_n hx hb dX6_worth_8 rfl (lv_at hl 0 rfl) ?_
  refine lv_iload_n hx hb dX6_worth_9 rfl (lv_at hl 2 rfl) ?_
  replace h := ob h
  obtain ⟨x3, hx3, h⟩ := h
  refine kX6_isFilm S hK hM hS hx3 ⟨Nat.le_of_ble_eq_true rfl, Nat.le_of_ble_eq_true rfl⟩ hl.1 (Nat.le_of_ble_eq_true rfl) dX6_worth_10 (fun H locs hM hS => ?_)
  refine lv_if_eq (tgt := 25) hx hb dX6_worth_13 (by decide) (fun c4 => ?_) (fun c4 => ?_)
  · replace h := it c4 h
    refine lv_iconst (v := (-1 : Int32)) hx hb dX6_worth_25 (by decide) ?_
    exact m_iret' S hr hlk rfl hM hS h dX6_worth_26
  replace h := ie c4 h
  refine lv_aload_n hx hb dX6_worth_16 rfl (lv_at hl 0 rfl) ?_
  refine lv_iload_n hx hb dX6_worth_17 rfl (lv_at hl 1 rfl) ?_
  refine lv_iload_n hx hb dX6_worth_18 rfl (lv_at hl 2 rfl) ?_
  replace h := ob h
  obtain ⟨x5, hx5, h⟩ := h
  refine kX6_worthOf S hK hM hS hx5 ⟨Nat.le_of_ble_eq_true rfl, Nat.le_of_ble_eq_true rfl⟩ hl.1 (Nat.le_of_ble_eq_true rfl) dX6_worth_19 (fun H locs hM hS => ?_)
  refine lv_goto (tgt := 26) hx hb dX6_worth_22 (by decide) ?_
  exact m_iret' S hr hlk rfl hM hS h dX6_worth_26
/-! kept(II)I -/
abbrev rmX6_kept : Room := { frames := 2, cells := 0, slots := 0, locals := 25 }
def fX6_kept (σ : MS) (a1 : Int32) (a2 : Int32) : Option (Int32) :=
  (aI σ 54 (96 : Int32)).bind fun v1 =>
  (fX6_isIn σ a1.toInt64 (0 : Int64) ((v1 - (1 : Int32)).toInt64)).bind fun x2 =>
  if x2 = 0 then
    some (-1 : Int32)
  else
  (fX6_isIn σ a2.toInt64 (0 : Int64) (3 : Int64)).bind fun x4 =>
  if x4 = 0 then
    some (-1 : Int32)
  else
  (aI σ 54 (((97 : Int32) + ((4 : Int32) * a1)) + a2)).bind fun v6 =>
  some v6
set_option maxHeartbeats 4000000 in
theorem metX6_kept {l : Launch} {G : mG} {b : Nat} {σ : MS} {a1 : Int32} {a2 : Int32} {x : Int32} (h : fX6_kept σ a1 a2 = some x) : Met l yX6_kept (ws_ yX6_kept cX6_kept 3 (some .int)) rmX6_kept (mP G b σ [.ref b, .int a1, .int a2]) (mQi G b (σ, x)) 0 0 (mB b) := by
  refine m_entry (by decide) rfl (Nat.le_of_ble_eq_true rfl) ?_
  intro p e s m below meth c S hr hlk hK hM hS ls hl
  replace hl : lv_has ls 3 [(0, .ref b), (1, .int a1), (2, .int a2)] := hl
  obtain ⟨hx, hb, hml, hown, hts⟩ := id S
  unfold fX6_kept at h
  refine lv_iload_n hx hb dX6_kept_0 rfl (lv_at hl 1 rfl) ?_
  refine lv_i2l (v := a1.toInt64) hx hb dX6_kept_1 rfl ?_
  refine lv_lconst (v := (0 : Int64)) hx hb dX6_kept_2 (by decide) ?_
  refine lv_aload_n hx hb dX6_kept_3 rfl (lv_at hl 0 rfl) ?_
  refine m_get S hK hM 54 (Nat.le_of_ble_eq_true rfl) q1786 (v := .ref (ma b 54)) rfl dX6_kept_4 ?_
  refine lv_bipush (v := (96 : Int32)) hx hb dX6_kept_7 (by decide) ?_
  replace h := ob h
  obtain ⟨v1, hv1, h⟩ := h
  refine m_iald S hK hM 54 rfl hv1 dX6_kept_9 ?_
  refine lv_iconst (v := (1 : Int32)) hx hb dX6_kept_10 (by decide) ?_
  refine lv_isub hx hb dX6_kept_11 ?_
  refine lv_i2l (v := (v1 - (1 : Int32)).toInt64) hx hb dX6_kept_12 rfl ?_
  replace h := ob h
  obtain ⟨x2, hx2, h⟩ := h
  refine kX6_isIn S hK hM hS hx2 ⟨Nat.le_of_ble_eq_true rfl, Nat.le_of_ble_eq_true rfl⟩ hl.1 (Nat.le_of_ble_eq_true rfl) dX6_kept_13 (fun H locs hM hS => ?_)
  refine lv_if_eq (tgt := 47) hx hb dX6_kept_16 (by decide) (fun c3 => ?_) (fun c3 => ?_)
  · replace h := it c3 h
    refine lv_iconst (v := (-1 : Int32)) hx hb dX6_kept_47 (by decide) ?_
    exact m_iret' S hr hlk rfl hM hS h dX6_kept_48
  replace h := ie c3 h
  refine lv_iload_n hx hb dX6_kept_19 rfl (lv_at hl 2 rfl) ?_
  refine lv_i2l (v := a2.toInt64) hx hb dX6_kept_20 rfl ?_
  refine lv_lconst (v := (0 : Int64)) hx hb dX6_kept_21 (by decide) ?_
  refine lv_ldc2 hx hb hown (hts _ q2181) dX6_kept_22 ?_
  replace h := ob h
  obtain ⟨x4, hx4, h⟩ := h
  refine kX6_isIn S hK hM hS hx4 ⟨Nat.le_of_ble_eq_true rfl, Nat.le_of_ble_eq_true rfl⟩ hl.1 (Nat.le_of_ble_eq_true rfl) dX6_kept_25 (fun H locs hM hS => ?_)
  refine lv_if_eq (tgt := 47) hx hb dX6_kept_28 (by decide) (fun c5 => ?_) (fun c5 => ?_)
  · replace h := it c5 h
    refine lv_iconst (v := (-1 : Int32)) hx hb dX6_kept_47 (by decide) ?_
    exact m_iret' S hr hlk rfl hM hS h dX6_kept_48
  replace h := ie c5 h
  refine lv_aload_n hx hb dX6_kept_31 rfl (lv_at hl 0 rfl) ?_
  refine m_get S hK hM 54 (Nat.le_of_ble_eq_true rfl) q1786 (v := .ref (ma b 54)) rfl dX6_kept_32 ?_
  refine lv_bipush (v := (97 : Int32)) hx hb dX6_kept_35 (by decide) ?_
  refine lv_iconst (v := (4 : Int32)) hx hb dX6_kept_37 (by decide) ?_
  refine lv_iload_n hx hb dX6_kept_38 rfl (lv_at hl 1 rfl) ?_
  refine lv_imul hx hb dX6_kept_39 ?_
  refine lv_iadd hx hb dX6_kept_40 ?_
  refine lv_iload_n hx hb dX6_kept_41 rfl (lv_at hl 2 rfl) ?_
  refine lv_iadd hx hb dX6_kept_42 ?_
  replace h := ob h
  obtain ⟨v6, hv6, h⟩ := h
  refine m_iald S hK hM 54 rfl hv6 dX6_kept_43 ?_
  refine lv_goto (tgt := 48) hx hb dX6_kept_44 (by decide) ?_
  exact m_iret' S hr hlk rfl hM hS h dX6_kept_48
/-! cut(J)I -/
abbrev rmX6_cut : Room := { frames := 1, cells := 0, slots := 0, locals := 0 }
def fX6_cut (σ : MS) (a0 : Int64) : Option (Int32) :=
  if (0 : Int64) ≤ a0 then
    if a0 ≤ (999 : Int64) then
      some a0.toInt32
    else
    some (999 : Int32)
  else
  some (0 : Int32)
set_option maxHeartbeats 4000000 in
theorem metX6_cut {l : Launch} {G : mG} {b : Nat} {σ : MS} {a0 : Int64} {x : Int32} (h : fX6_cut σ a0 = some x) : Met l yX6_cut (ws_ yX6_cut cX6_cut 2 (some .int)) rmX6_cut (mP G b σ [.long a0]) (mQi G b (σ, x)) 0 0 (mB b) := by
  refine m_entry (by decide) rfl (Nat.le_of_ble_eq_true rfl) ?_
  intro p e s m below meth c S hr hlk hK hM hS ls hl
  replace hl : lv_has ls 2 [(0, .long a0)] := hl
  obtain ⟨hx, hb, hml, hown, hts⟩ := id S
  unfold fX6_cut at h
  refine lv_lload_n hx hb dX6_cut_0 rfl (lv_at hl 0 rfl) ?_
  refine lv_lconst (v := (0 : Int64)) hx hb dX6_cut_1 (by decide) ?_
  refine m_lcmp S dX6_cut_2 ?_
  refine lv_if_ge (tgt := 10) hx hb dX6_cut_3 (by decide) (fun c1 => ?_) (fun c1 => ?_)
  rotate_left 1
  · replace h := ie (fun q => c1 ((lg_cmp_ge _ _).mpr q)) h
    refine lv_iconst (v := (0 : Int32)) hx hb dX6_cut_6 (by decide) ?_
    refine lv_goto (tgt := 26) hx hb dX6_cut_7 (by decide) ?_
    exact m_iret' S hr hlk rfl hM hS h dX6_cut_26
  replace h := it ((lg_cmp_ge _ _).mp c1) h
  refine lv_lload_n hx hb dX6_cut_10 rfl (lv_at hl 0 rfl) ?_
  refine lv_ldc2 hx hb hown (hts _ q2430) dX6_cut_11 ?_
  refine m_lcmp S dX6_cut_14 ?_
  refine lv_if_le (tgt := 24) hx hb dX6_cut_15 (by decide) (fun c2 => ?_) (fun c2 => ?_)
  · replace h := it ((lg_cmp_le _ _).mp c2) h
    refine lv_lload_n hx hb dX6_cut_24 rfl (lv_at hl 0 rfl) ?_
    refine lv_l2i (v := a0.toInt32) hx hb dX6_cut_25 rfl ?_
    exact m_iret' S hr hlk rfl hM hS h dX6_cut_26
  replace h := ie (fun q => c2 ((lg_cmp_le _ _).mpr q)) h
  refine lv_sipush (v := (999 : Int32)) hx hb dX6_cut_18 (by decide) ?_
  refine lv_goto (tgt := 26) hx hb dX6_cut_21 (by decide) ?_
  exact m_iret' S hr hlk rfl hM hS h dX6_cut_26
theorem kX6_cut {p : Program} {l : Launch} {e : Env} {R : Room} {s : State} {m : MethodId} {args : Array Value} {below : List Frame} {meth : Method} {c : Code} {H H0 : Heap} {locs : List Loc} {Q : State → Prop} {cc : ByteArray} {nL pc : Nat} {ls : Array Slot} {rest : List Value} {G : mG} {b : Nat} {σ : MS} {a0 : Int64} {x : Int32} (S : CallFix p m c cc nL s args lw_all RX6) (hK : mK G s) (hM : MW G b σ H) (hS : va_S (mB b) H0 H locs) (hf : fX6_cut σ a0 = some x) (hR : rmX6_cut.frames + 1 ≤ R.frames ∧ 8 + (2 + 11) + rmX6_cut.locals ≤ R.locals) (hsize : ls.size = nL) (hr : (rest.map fun v => v.category).sum ≤ 8) (hdg : decode cc pc = .ok (.invokestatic 470, 3)) (kk : ∀ (H1 : Heap) (locs1 : List Loc), MW G b σ H1 → va_S (mB b) H0 H1 locs1 → W p l e R s m args below meth c H1 locs1 0 0 Q (F0 m (pc + 3) ls (.int x :: rest))) : W p l e R s m args below meth c H locs 0 0 Q (F0 m pc ls (.long a0 :: rest)) :=
  m_cSi (As := [.long a0]) S hK hM hS (metX6_cut hf) (va_cwS 1 S.2.2.2.2 (lw_S q2427 q2428 q179 q2429) rfl rfl rfl (by decide +kernel) hR) ⟨Nat.zero_le _, Nat.zero_le _⟩ rfl hsize rfl hr hdg kk
/-! fade()V -/
abbrev rmX6_fade : Room := { frames := 5, cells := 0, slots := 0, locals := 92 }
def fX6_fade_23 (k13 : MS → Int32 → Option (MS)) : Nat → MS → Int32 → Int32 → Option (MS)
  | 0, _, _, _ => none
  | n + 1, σ, a1, a2 =>
    (fX6_kindMany σ).bind fun x1 =>
    if x1 ≤ a2 then
      k13 σ (a1 + (1 : Int32))
    else
    (fX6_tasteAt σ a1 a2).bind fun x3 =>
    (aI σ 54 x3).bind fun v4 =>
    (fX6_tasteAt (sI σ 58 v4) a1 a2).bind fun x5 =>
    (fX6_codesTell (sI σ 58 v4) (1 : Int32) (0 : Int32)).bind fun x6 =>
    (fX6_cut x6.1 x6.2).bind fun x7 =>
    (tI x6.1 54 x5 x7).bind fun σ8 =>
    fX6_fade_23 k13 n σ8 a1 (a2 + (1 : Int32))
def fX6_fade_13 : Nat → MS → Int32 → Option (MS)
  | 0, _, _ => none
  | n + 1, σ, a1 =>
    (fX6_personMany σ).bind fun x1 =>
    if x1 < a1 then
      some σ
    else
    fX6_fade_23 (fun σ' b1 => fX6_fade_13 n σ' b1) FU σ a1 (0 : Int32)
def fX6_fade (σ : MS) : Option (MS) :=
  (aI σ 48 (4 : Int32)).bind fun v1 =>
  if v1 = (-1 : Int32) then
    some σ
  else
  fX6_fade_13 FU σ (0 : Int32)
set_option maxHeartbeats 4000000 in
theorem wX6_fade_23 {p : Program} {l : Launch} {e : Env} {s : State} {m : MethodId} {args : Array Value} {below : List Frame} {meth : Method} {c : Code} {G : mG} {b : Nat} (S : CallFix p m c cX6_fade 3 s args lw_all RX6) (hr : meth.sig.returnType = none) (hlk : meth.locks = false) (hK : mK G s) {x : MS} {k13 : MS → Int32 → Option (MS)} (hk13 : ∀ σ a1, k13 σ a1 = some x → mGo p l e rmX6_fade s m args below meth c G b (MQ below (mQv G b x) args s 0 0 (mB b)) 3 13 [(0, .ref b), (1, .int a1)] [] σ) : ∀ (n : Nat) (σ : MS) (a1 : Int32) (a2 : Int32), fX6_fade_23 k13 n σ a1 a2 = some x → mGo p l e rmX6_fade s m args below meth c G b (MQ below (mQv G b x) args s 0 0 (mB b)) 3 23 [(0, .ref b), (1, .int a1), (2, .int a2)] [] σ := by
  obtain ⟨hx, hb, hml, hown, hts⟩ := id S
  intro n
  induction n with
  | zero => intro σ a1 a2 h; cases h
  | succ n ih =>
    intro σ a1 a2 h H locs hM hS ls hl
    rw [fX6_fade_23] at h
    refine lv_iload_n hx hb dX6_fade_23 rfl (lv_at hl 2 rfl) ?_
    refine lv_aload_n hx hb dX6_fade_24 rfl (lv_at hl 0 rfl) ?_
    replace h := ob h
    obtain ⟨x1, hx1, h⟩ := h
    refine kX6_kindMany S hK hM hS hx1 ⟨Nat.le_of_ble_eq_true rfl, Nat.le_of_ble_eq_true rfl⟩ hl.1 (Nat.le_of_ble_eq_true rfl) dX6_fade_25 (fun H locs hM hS => ?_)
    refine lv_icmp_ge (tgt := 72) hx hb dX6_fade_28 (by decide) (fun c2 => ?_) (fun c2 => ?_)
    · replace h := it c2 h
      refine lv_iinc (v := (a1 + (1 : Int32))) (lv' := [(1, .int (a1 + (1 : Int32))), (0, .ref b), (2, .int a2)]) hx hb dX6_fade_72 hl (k := 1) rfl rfl (by decide) rfl (fun ls hl => ?_)
      refine lv_goto (tgt := 13) hx hb dX6_fade_75 (by decide) ?_
      exact hk13 σ (a1 + (1 : Int32)) h _ _ hM hS _ (lv_sub hl [1, 0] rfl)
    replace h := ie c2 h
    refine lv_aload_n hx hb dX6_fade_31 rfl (lv_at hl 0 rfl) ?_
    refine lv_aload_n hx hb dX6_fade_32 rfl (lv_at hl 0 rfl) ?_
    refine m_get S hK hM 54 (Nat.le_of_ble_eq_true rfl) q1786 (v := .ref (ma b 54)) rfl dX6_fade_33 ?_
    refine lv_aload_n hx hb dX6_fade_36 rfl (lv_at hl 0 rfl) ?_
    refine lv_iload_n hx hb dX6_fade_37 rfl (lv_at hl 1 rfl) ?_
    refine lv_iload_n hx hb dX6_fade_38 rfl (lv_at hl 2 rfl) ?_
    replace h := ob h
    obtain ⟨x3, hx3, h⟩ := h
    refine kX6_tasteAt S hK hM hS hx3 ⟨Nat.le_of_ble_eq_true rfl, Nat.le_of_ble_eq_true rfl⟩ hl.1 (Nat.le_of_ble_eq_true rfl) dX6_fade_39 (fun H locs hM hS => ?_)
    replace h := ob h
    obtain ⟨v4, hv4, h⟩ := h
    refine m_iald S hK hM 54 rfl hv4 dX6_fade_42 ?_
    refine m_putI S hK hM hS 58 (Nat.le_of_ble_eq_true rfl) rfl q1790 rfl (ty := .int) rfl rfl rfl dX6_fade_43 (fun H locs hM hS => ?_)
    refine lv_aload_n hx hb dX6_fade_46 rfl (lv_at hl 0 rfl) ?_
    refine m_get S hK hM 54 (Nat.le_of_ble_eq_true rfl) q1786 (v := .ref (ma b 54)) rfl dX6_fade_47 ?_
    refine lv_aload_n hx hb dX6_fade_50 rfl (lv_at hl 0 rfl) ?_
    refine lv_iload_n hx hb dX6_fade_51 rfl (lv_at hl 1 rfl) ?_
    refine lv_iload_n hx hb dX6_fade_52 rfl (lv_at hl 2 rfl) ?_
    replace h := ob h
    obtain ⟨x5, hx5, h⟩ := h
    refine kX6_tasteAt S hK hM hS hx5 ⟨Nat.le_of_ble_eq_true rfl, Nat.le_of_ble_eq_true rfl⟩ hl.1 (Nat.le_of_ble_eq_true rfl) dX6_fade_53 (fun H locs hM hS => ?_)
    refine lv_aload_n hx hb dX6_fade_56 rfl (lv_at hl 0 rfl) ?_
    refine lv_iconst (v := (1 : Int32)) hx hb dX6_fade_57 (by decide) ?_
    refine lv_iconst (v := (0 : Int32)) hx hb dX6_fade_58 (by decide) ?_
    replace h := ob h
    obtain ⟨x6, hx6, h⟩ := h
    refine kX6_codesTell S hK hM hS hx6 ⟨Nat.le_of_ble_eq_true rfl, Nat.le_of_ble_eq_true rfl⟩ hl.1 (Nat.le_of_ble_eq_true rfl) dX6_fade_59 (fun H locs hM hS => ?_)
    replace h := ob h
    obtain ⟨x7, hx7, h⟩ := h
    refine kX6_cut S hK hM hS hx7 ⟨Nat.le_of_ble_eq_true rfl, Nat.le_of_ble_eq_true rfl⟩ hl.1 (Nat.le_of_ble_eq_true rfl) dX6_fade_62 (fun H locs hM hS => ?_)
    replace h := ob h
    obtain ⟨σ8, hσ8, h⟩ := h
    refine m_iast S hK hM hS 54 rfl hσ8 dX6_fade_65 (fun H locs hM hS => ?_)
    refine lv_iinc (v := (a2 + (1 : Int32))) (lv' := [(2, .int (a2 + (1 : Int32))), (0, .ref b), (1, .int a1)]) hx hb dX6_fade_66 hl (k := 2) rfl rfl (by decide) rfl (fun ls hl => ?_)
    refine lv_goto (tgt := 23) hx hb dX6_fade_69 (by decide) ?_
    exact ih σ8 a1 (a2 + (1 : Int32)) h _ _ hM hS _ (lv_sub hl [1, 2, 0] rfl)
set_option maxHeartbeats 4000000 in
theorem wX6_fade_13 {p : Program} {l : Launch} {e : Env} {s : State} {m : MethodId} {args : Array Value} {below : List Frame} {meth : Method} {c : Code} {G : mG} {b : Nat} (S : CallFix p m c cX6_fade 3 s args lw_all RX6) (hr : meth.sig.returnType = none) (hlk : meth.locks = false) (hK : mK G s) {x : MS} : ∀ (n : Nat) (σ : MS) (a1 : Int32), fX6_fade_13 n σ a1 = some x → mGo p l e rmX6_fade s m args below meth c G b (MQ below (mQv G b x) args s 0 0 (mB b)) 3 13 [(0, .ref b), (1, .int a1)] [] σ := by
  obtain ⟨hx, hb, hml, hown, hts⟩ := id S
  intro n
  induction n with
  | zero => intro σ a1 h; cases h
  | succ n ih =>
    intro σ a1 h H locs hM hS ls hl
    rw [fX6_fade_13] at h
    refine lv_iload_n hx hb dX6_fade_13 rfl (lv_at hl 1 rfl) ?_
    refine lv_aload_n hx hb dX6_fade_14 rfl (lv_at hl 0 rfl) ?_
    replace h := ob h
    obtain ⟨x1, hx1, h⟩ := h
    refine kX6_personMany S hK hM hS hx1 ⟨Nat.le_of_ble_eq_true rfl, Nat.le_of_ble_eq_true rfl⟩ hl.1 (Nat.le_of_ble_eq_true rfl) dX6_fade_15 (fun H locs hM hS => ?_)
    refine lv_icmp_gt (tgt := 78) hx hb dX6_fade_18 (by decide) (fun c2 => ?_) (fun c2 => ?_)
    · replace h := it c2 h
      exact m_vret S hr hlk hM hS h dX6_fade_78
    replace h := ie c2 h
    refine lv_iconst (v := (0 : Int32)) hx hb dX6_fade_21 (by decide) ?_
    refine lv_istore_n (lv' := [(2, .int (0 : Int32)), (0, .ref b), (1, .int a1)]) hx hb dX6_fade_22 rfl hl (by decide) rfl (fun ls hl => ?_)
    exact wX6_fade_23 S hr hlk hK ih FU σ a1 (0 : Int32) h _ _ hM hS _ (lv_sub hl [1, 2, 0] rfl)
set_option maxHeartbeats 4000000 in
theorem metX6_fade {l : Launch} {G : mG} {b : Nat} {σ : MS} {x : MS} (h : fX6_fade σ = some x) : Met l yX6_fade (ws_ yX6_fade cX6_fade 3 (none)) rmX6_fade (mP G b σ [.ref b]) (mQv G b x) 0 0 (mB b) := by
  refine m_entry (by decide) rfl (Nat.le_of_ble_eq_true rfl) ?_
  intro p e s m below meth c S hr hlk hK hM hS ls hl
  replace hl : lv_has ls 3 [(0, .ref b)] := hl
  obtain ⟨hx, hb, hml, hown, hts⟩ := id S
  unfold fX6_fade at h
  refine lv_aload_n hx hb dX6_fade_0 rfl (lv_at hl 0 rfl) ?_
  refine m_get S hK hM 48 (Nat.le_of_ble_eq_true rfl) q1780 (v := .ref (ma b 48)) rfl dX6_fade_1 ?_
  refine lv_iconst (v := (4 : Int32)) hx hb dX6_fade_4 (by decide) ?_
  replace h := ob h
  obtain ⟨v1, hv1, h⟩ := h
  refine m_iald S hK hM 48 rfl hv1 dX6_fade_5 ?_
  refine lv_iconst (v := (-1 : Int32)) hx hb dX6_fade_6 (by decide) ?_
  refine lv_icmp_ne (tgt := 11) hx hb dX6_fade_7 (by decide) (fun c2 => ?_) (fun c2 => ?_)
  rotate_left 1
  · replace h := it c2 h
    exact m_vret S hr hlk hM hS h dX6_fade_10
  replace h := ie c2 h
  refine lv_iconst (v := (0 : Int32)) hx hb dX6_fade_11 (by decide) ?_
  refine lv_istore_n (lv' := [(1, .int (0 : Int32)), (0, .ref b)]) hx hb dX6_fade_12 rfl hl (by decide) rfl (fun ls hl => ?_)
  exact wX6_fade_13 S hr hlk hK FU σ (0 : Int32) h _ _ hM hS _ (lv_sub hl [1, 0] rfl)
theorem kX6_fade {p : Program} {l : Launch} {e : Env} {R : Room} {s : State} {m : MethodId} {args : Array Value} {below : List Frame} {meth : Method} {c : Code} {H H0 : Heap} {locs : List Loc} {Q : State → Prop} {cc : ByteArray} {nL pc : Nat} {ls : Array Slot} {rest : List Value} {G : mG} {b : Nat} {σ : MS} {x : MS} (S : CallFix p m c cc nL s args lw_all RX6) (hK : mK G s) (hM : MW G b σ H) (hS : va_S (mB b) H0 H locs) (hf : fX6_fade σ = some x) (hR : rmX6_fade.frames + 1 ≤ R.frames ∧ 8 + (3 + 11) + rmX6_fade.locals ≤ R.locals) (hsize : ls.size = nL) (hr : (rest.map fun v => v.category).sum ≤ 8) (hdg : decode cc pc = .ok (.invokevirtual 499, 3)) (kk : ∀ (H1 : Heap) (locs1 : List Loc), MW G b x H1 → va_S (mB b) H0 H1 locs1 → W p l e R s m args below meth c H1 locs1 0 0 Q (F0 m (pc + 3) ls (rest))) : W p l e R s m args below meth c H locs 0 0 Q (F0 m pc ls (.ref b :: rest)) :=
  m_cVv (As := []) S hK hM hS (metX6_fade hf) (cwV 0 S.2.2.2.2 (lw_V q2439 q2441 qs142 q179 q2442) rfl rfl rfl (by decide +kernel) hR) ⟨Nat.zero_le _, Nat.zero_le _⟩ rfl hsize rfl hr hdg kk
/-! hasSeen(I)V -/
abbrev rmX6_hasSeen : Room := { frames := 1, cells := 0, slots := 0, locals := 0 }
def fX6_hasSeen (σ : MS) (a1 : Int32) : Option (MS) :=
  (aI σ 54 (((86 : Int32) + ((2 : Int32) * a1)) + (1 : Int32))).bind fun v1 =>
  if (9999 : Int32) ≤ v1 then
    some σ
  else
  (aI σ 54 (((86 : Int32) + ((2 : Int32) * a1)) + (1 : Int32))).bind fun v3 =>
  (tI σ 54 (((86 : Int32) + ((2 : Int32) * a1)) + (1 : Int32)) (v3 + (1 : Int32))).bind fun σ4 =>
  some σ4
set_option maxHeartbeats 4000000 in
theorem metX6_hasSeen {l : Launch} {G : mG} {b : Nat} {σ : MS} {a1 : Int32} {x : MS} (h : fX6_hasSeen σ a1 = some x) : Met l yX6_hasSeen (ws_ yX6_hasSeen cX6_hasSeen 2 (none)) rmX6_hasSeen (mP G b σ [.ref b, .int a1]) (mQv G b x) 0 0 (mB b) := by
  refine m_entry (by decide) rfl (Nat.le_of_ble_eq_true rfl) ?_
  intro p e s m below meth c S hr hlk hK hM hS ls hl
  replace hl : lv_has ls 2 [(0, .ref b), (1, .int a1)] := hl
  obtain ⟨hx, hb, hml, hown, hts⟩ := id S
  unfold fX6_hasSeen at h
  refine lv_aload_n hx hb dX6_hasSeen_0 rfl (lv_at hl 0 rfl) ?_
  refine m_get S hK hM 54 (Nat.le_of_ble_eq_true rfl) q1786 (v := .ref (ma b 54)) rfl dX6_hasSeen_1 ?_
  refine lv_bipush (v := (86 : Int32)) hx hb dX6_hasSeen_4 (by decide) ?_
  refine lv_iconst (v := (2 : Int32)) hx hb dX6_hasSeen_6 (by decide) ?_
  refine lv_iload_n hx hb dX6_hasSeen_7 rfl (lv_at hl 1 rfl) ?_
  refine lv_imul hx hb dX6_hasSeen_8 ?_
  refine lv_iadd hx hb dX6_hasSeen_9 ?_
  refine lv_iconst (v := (1 : Int32)) hx hb dX6_hasSeen_10 (by decide) ?_
  refine lv_iadd hx hb dX6_hasSeen_11 ?_
  replace h := ob h
  obtain ⟨v1, hv1, h⟩ := h
  refine m_iald S hK hM 54 rfl hv1 dX6_hasSeen_12 ?_
  refine lv_sipush (v := (9999 : Int32)) hx hb dX6_hasSeen_13 (by decide) ?_
  refine lv_icmp_ge (tgt := 36) hx hb dX6_hasSeen_16 (by decide) (fun c2 => ?_) (fun c2 => ?_)
  · replace h := it c2 h
    exact m_vret S hr hlk hM hS h dX6_hasSeen_36
  replace h := ie c2 h
  refine lv_aload_n hx hb dX6_hasSeen_19 rfl (lv_at hl 0 rfl) ?_
  refine m_get S hK hM 54 (Nat.le_of_ble_eq_true rfl) q1786 (v := .ref (ma b 54)) rfl dX6_hasSeen_20 ?_
  refine lv_bipush (v := (86 : Int32)) hx hb dX6_hasSeen_23 (by decide) ?_
  refine lv_iconst (v := (2 : Int32)) hx hb dX6_hasSeen_25 (by decide) ?_
  refine lv_iload_n hx hb dX6_hasSeen_26 rfl (lv_at hl 1 rfl) ?_
  refine lv_imul hx hb dX6_hasSeen_27 ?_
  refine lv_iadd hx hb dX6_hasSeen_28 ?_
  refine lv_iconst (v := (1 : Int32)) hx hb dX6_hasSeen_29 (by decide) ?_
  refine lv_iadd hx hb dX6_hasSeen_30 ?_
  refine lv_dup2_11 hx hb dX6_hasSeen_31 rfl rfl ?_
  replace h := ob h
  obtain ⟨v3, hv3, h⟩ := h
  refine m_iald S hK hM 54 rfl hv3 dX6_hasSeen_32 ?_
  refine lv_iconst (v := (1 : Int32)) hx hb dX6_hasSeen_33 (by decide) ?_
  refine lv_iadd hx hb dX6_hasSeen_34 ?_
  replace h := ob h
  obtain ⟨σ4, hσ4, h⟩ := h
  refine m_iast S hK hM hS 54 rfl hσ4 dX6_hasSeen_35 (fun H locs hM hS => ?_)
  exact m_vret S hr hlk hM hS h dX6_hasSeen_36
theorem kX6_hasSeen {p : Program} {l : Launch} {e : Env} {R : Room} {s : State} {m : MethodId} {args : Array Value} {below : List Frame} {meth : Method} {c : Code} {H H0 : Heap} {locs : List Loc} {Q : State → Prop} {cc : ByteArray} {nL pc : Nat} {ls : Array Slot} {rest : List Value} {G : mG} {b : Nat} {σ : MS} {a1 : Int32} {x : MS} (S : CallFix p m c cc nL s args lw_all RX6) (hK : mK G s) (hM : MW G b σ H) (hS : va_S (mB b) H0 H locs) (hf : fX6_hasSeen σ a1 = some x) (hR : rmX6_hasSeen.frames + 1 ≤ R.frames ∧ 8 + (2 + 11) + rmX6_hasSeen.locals ≤ R.locals) (hsize : ls.size = nL) (hr : (rest.map fun v => v.category).sum ≤ 8) (hdg : decode cc pc = .ok (.invokevirtual 493, 3)) (kk : ∀ (H1 : Heap) (locs1 : List Loc), MW G b x H1 → va_S (mB b) H0 H1 locs1 → W p l e R s m args below meth c H1 locs1 0 0 Q (F0 m (pc + 3) ls (rest))) : W p l e R s m args below meth c H locs 0 0 Q (F0 m pc ls (.int a1 :: .ref b :: rest)) :=
  m_cVv (As := [.int a1]) S hK hM hS (metX6_hasSeen hf) (cwV 1 S.2.2.2.2 (lw_V q2431 q2433 qs140 q179 q2434) rfl rfl rfl (by decide +kernel) hR) ⟨Nat.zero_le _, Nat.zero_le _⟩ rfl hsize rfl hr hdg kk
/-! isFree(II)Z -/
abbrev rmX6_isFree : Room := { frames := 2, cells := 0, slots := 0, locals := 25 }
def fX6_isFree (σ : MS) (a1 : Int32) (a2 : Int32) : Option (Int32) :=
  (aI σ 44 ((10 : Int32) + ((2 : Int32) * a1))).bind fun v1 =>
  (aI σ 44 ((11 : Int32) + ((2 : Int32) * a1))).bind fun v2 =>
  (fX6_isIn σ a2.toInt64 v1.toInt64 v2.toInt64).bind fun x3 =>
  (zr x3).bind fun z4 =>
  some x3
set_option maxHeartbeats 4000000 in
theorem metX6_isFree {l : Launch} {G : mG} {b : Nat} {σ : MS} {a1 : Int32} {a2 : Int32} {x : Int32} (h : fX6_isFree σ a1 a2 = some x) : Met l yX6_isFree (ws_ yX6_isFree cX6_isFree 3 (some .boolean)) rmX6_isFree (mP G b σ [.ref b, .int a1, .int a2]) (mQi G b (σ, x)) 0 0 (mB b) := by
  refine m_entry (by decide) rfl (Nat.le_of_ble_eq_true rfl) ?_
  intro p e s m below meth c S hr hlk hK hM hS ls hl
  replace hl : lv_has ls 3 [(0, .ref b), (1, .int a1), (2, .int a2)] := hl
  obtain ⟨hx, hb, hml, hown, hts⟩ := id S
  unfold fX6_isFree at h
  refine lv_iload_n hx hb dX6_isFree_0 rfl (lv_at hl 2 rfl) ?_
  refine lv_i2l (v := a2.toInt64) hx hb dX6_isFree_1 rfl ?_
  refine lv_aload_n hx hb dX6_isFree_2 rfl (lv_at hl 0 rfl) ?_
  refine m_get S hK hM 44 (Nat.le_of_ble_eq_true rfl) q1776 (v := .ref (ma b 44)) rfl dX6_isFree_3 ?_
  refine lv_bipush (v := (10 : Int32)) hx hb dX6_isFree_6 (by decide) ?_
  refine lv_iconst (v := (2 : Int32)) hx hb dX6_isFree_8 (by decide) ?_
  refine lv_iload_n hx hb dX6_isFree_9 rfl (lv_at hl 1 rfl) ?_
  refine lv_imul hx hb dX6_isFree_10 ?_
  refine lv_iadd hx hb dX6_isFree_11 ?_
  replace h := ob h
  obtain ⟨v1, hv1, h⟩ := h
  refine m_iald S hK hM 44 rfl hv1 dX6_isFree_12 ?_
  refine lv_i2l (v := v1.toInt64) hx hb dX6_isFree_13 rfl ?_
  refine lv_aload_n hx hb dX6_isFree_14 rfl (lv_at hl 0 rfl) ?_
  refine m_get S hK hM 44 (Nat.le_of_ble_eq_true rfl) q1776 (v := .ref (ma b 44)) rfl dX6_isFree_15 ?_
  refine lv_bipush (v := (11 : Int32)) hx hb dX6_isFree_18 (by decide) ?_
  refine lv_iconst (v := (2 : Int32)) hx hb dX6_isFree_20 (by decide) ?_
  refine lv_iload_n hx hb dX6_isFree_21 rfl (lv_at hl 1 rfl) ?_
  refine lv_imul hx hb dX6_isFree_22 ?_
  refine lv_iadd hx hb dX6_isFree_23 ?_
  replace h := ob h
  obtain ⟨v2, hv2, h⟩ := h
  refine m_iald S hK hM 44 rfl hv2 dX6_isFree_24 ?_
  refine lv_i2l (v := v2.toInt64) hx hb dX6_isFree_25 rfl ?_
  replace h := ob h
  obtain ⟨x3, hx3, h⟩ := h
  refine kX6_isIn S hK hM hS hx3 ⟨Nat.le_of_ble_eq_true rfl, Nat.le_of_ble_eq_true rfl⟩ hl.1 (Nat.le_of_ble_eq_true rfl) dX6_isFree_26 (fun H locs hM hS => ?_)
  replace h := ob h
  obtain ⟨z4, hz4, h⟩ := h
  obtain ⟨hz4a, -, -⟩ := zr_e hz4
  exact m_iret' S hr hlk hz4a hM hS h dX6_isFree_29
theorem kX6_isFree {p : Program} {l : Launch} {e : Env} {R : Room} {s : State} {m : MethodId} {args : Array Value} {below : List Frame} {meth : Method} {c : Code} {H H0 : Heap} {locs : List Loc} {Q : State → Prop} {cc : ByteArray} {nL pc : Nat} {ls : Array Slot} {rest : List Value} {G : mG} {b : Nat} {σ : MS} {a1 : Int32} {a2 : Int32} {x : Int32} (S : CallFix p m c cc nL s args lw_all RX6) (hK : mK G s) (hM : MW G b σ H) (hS : va_S (mB b) H0 H locs) (hf : fX6_isFree σ a1 a2 = some x) (hR : rmX6_isFree.frames + 1 ≤ R.frames ∧ 8 + (3 + 11) + rmX6_isFree.locals ≤ R.locals) (hsize : ls.size = nL) (hr : (rest.map fun v => v.category).sum ≤ 8) (hdg : decode cc pc = .ok (.invokevirtual 481, 3)) (kk : ∀ (H1 : Heap) (locs1 : List Loc), MW G b σ H1 → va_S (mB b) H0 H1 locs1 → W p l e R s m args below meth c H1 locs1 0 0 Q (F0 m (pc + 3) ls (.int x :: rest))) : W p l e R s m args below meth c H locs 0 0 Q (F0 m pc ls (.int a2 :: .int a1 :: .ref b :: rest)) :=
  m_cVi (As := [.int a1, .int a2]) S hK hM hS (metX6_isFree hf) (cwV 2 S.2.2.2.2 (lw_V q2415 q2417 qs137 q179 q2418) rfl rfl rfl (by decide +kernel) hR) ⟨Nat.zero_le _, Nat.zero_le _⟩ rfl hsize rfl hr hdg kk
/-! isKept(II)V -/
abbrev rmX6_isKept : Room := { frames := 1, cells := 0, slots := 0, locals := 0 }
def fX6_isKept_64 (σ : MS) (a1 : Int32) (a2 : Int32) : Option (MS) :=
  (aI σ 54 (96 : Int32)).bind fun v1 =>
  (aI σ 54 (0 : Int32)).bind fun v2 =>
  (tI σ 54 (((97 : Int32) + ((4 : Int32) * v1)) - (4 : Int32)) v2).bind fun σ3 =>
  (aI σ3 54 (1 : Int32)).bind fun v4 =>
  (tI σ3 54 ((((97 : Int32) + ((4 : Int32) * v1)) - (4 : Int32)) + (1 : Int32)) v4).bind fun σ5 =>
  (tI σ5 54 ((((97 : Int32) + ((4 : Int32) * v1)) - (4 : Int32)) + (2 : Int32)) a1).bind fun σ6 =>
  (tI σ6 54 ((((97 : Int32) + ((4 : Int32) * v1)) - (4 : Int32)) + (3 : Int32)) a2).bind fun σ7 =>
  some σ7
def fX6_isKept_23 : Nat → MS → Int32 → Int32 → Int32 → Option (MS)
  | 0, _, _, _, _ => none
  | n + 1, σ, a1, a2, a3 =>
    if (253 : Int32) ≤ a3 then
      fX6_isKept_64 σ a1 a2
    else
    (aI σ 54 (a3 + (4 : Int32))).bind fun v2 =>
    (tI σ 54 a3 v2).bind fun σ3 =>
    fX6_isKept_23 n σ3 a1 a2 (a3 + (1 : Int32))
def fX6_isKept (σ : MS) (a1 : Int32) (a2 : Int32) : Option (MS) :=
  if (σ.1 60) = 0 then
    (aI σ 54 (96 : Int32)).bind fun v2 =>
    if v2 = (40 : Int32) then
      fX6_isKept_23 FU σ a1 a2 (97 : Int32)
    else
    (aI σ 54 (96 : Int32)).bind fun v4 =>
    (tI σ 54 (96 : Int32) (v4 + (1 : Int32))).bind fun σ5 =>
    fX6_isKept_64 σ5 a1 a2
  else
  some σ
set_option maxHeartbeats 4000000 in
theorem wX6_isKept_64 {p : Program} {l : Launch} {e : Env} {s : State} {m : MethodId} {args : Array Value} {below : List Frame} {meth : Method} {c : Code} {G : mG} {b : Nat} (S : CallFix p m c cX6_isKept 4 s args lw_all RX6) (hr : meth.sig.returnType = none) (hlk : meth.locks = false) (hK : mK G s) {x : MS} : ∀ (σ : MS) (a1 : Int32) (a2 : Int32), fX6_isKept_64 σ a1 a2 = some x → mGo p l e rmX6_isKept s m args below meth c G b (MQ below (mQv G b x) args s 0 0 (mB b)) 4 64 [(0, .ref b), (1, .int a1), (2, .int a2)] [] σ := by
  obtain ⟨hx, hb, hml, hown, hts⟩ := id S
  intro σ a1 a2 h H locs hM hS ls hl
  unfold fX6_isKept_64 at h
  refine lv_bipush (v := (97 : Int32)) hx hb dX6_isKept_64 (by decide) ?_
  refine lv_iconst (v := (4 : Int32)) hx hb dX6_isKept_66 (by decide) ?_
  refine lv_aload_n hx hb dX6_isKept_67 rfl (lv_at hl 0 rfl) ?_
  refine m_get S hK hM 54 (Nat.le_of_ble_eq_true rfl) q1786 (v := .ref (ma b 54)) rfl dX6_isKept_68 ?_
  refine lv_bipush (v := (96 : Int32)) hx hb dX6_isKept_71 (by decide) ?_
  replace h := ob h
  obtain ⟨v1, hv1, h⟩ := h
  refine m_iald S hK hM 54 rfl hv1 dX6_isKept_73 ?_
  refine lv_imul hx hb dX6_isKept_74 ?_
  refine lv_iadd hx hb dX6_isKept_75 ?_
  refine lv_iconst (v := (4 : Int32)) hx hb dX6_isKept_76 (by decide) ?_
  refine lv_isub hx hb dX6_isKept_77 ?_
  refine lv_istore_n (lv' := [(3, .int (((97 : Int32) + ((4 : Int32) * v1)) - (4 : Int32))), (0, .ref b), (1, .int a1), (2, .int a2)]) hx hb dX6_isKept_78 rfl hl (by decide) rfl (fun ls hl => ?_)
  refine lv_aload_n hx hb dX6_isKept_79 rfl (lv_at hl 1 rfl) ?_
  refine m_get S hK hM 54 (Nat.le_of_ble_eq_true rfl) q1786 (v := .ref (ma b 54)) rfl dX6_isKept_80 ?_
  refine lv_iload_n hx hb dX6_isKept_83 rfl (lv_at hl 0 rfl) ?_
  refine lv_aload_n hx hb dX6_isKept_84 rfl (lv_at hl 1 rfl) ?_
  refine m_get S hK hM 54 (Nat.le_of_ble_eq_true rfl) q1786 (v := .ref (ma b 54)) rfl dX6_isKept_85 ?_
  refine lv_iconst (v := (0 : Int32)) hx hb dX6_isKept_88 (by decide) ?_
  replace h := ob h
  obtain ⟨v2, hv2, h⟩ := h
  refine m_iald S hK hM 54 rfl hv2 dX6_isKept_89 ?_
  replace h := ob h
  obtain ⟨σ3, hσ3, h⟩ := h
  refine m_iast S hK hM hS 54 rfl hσ3 dX6_isKept_90 (fun H locs hM hS => ?_)
  refine lv_aload_n hx hb dX6_isKept_91 rfl (lv_at hl 1 rfl) ?_
  refine m_get S hK hM 54 (Nat.le_of_ble_eq_true rfl) q1786 (v := .ref (ma b 54)) rfl dX6_isKept_92 ?_
  refine lv_iload_n hx hb dX6_isKept_95 rfl (lv_at hl 0 rfl) ?_
  refine lv_iconst (v := (1 : Int32)) hx hb dX6_isKept_96 (by decide) ?_
  refine lv_iadd hx hb dX6_isKept_97 ?_
  refine lv_aload_n hx hb dX6_isKept_98 rfl (lv_at hl 1 rfl) ?_
  refine m_get S hK hM 54 (Nat.le_of_ble_eq_true rfl) q1786 (v := .ref (ma b 54)) rfl dX6_isKept_99 ?_
  refine lv_iconst (v := (1 : Int32)) hx hb dX6_isKept_102 (by decide) ?_
  replace h := ob h
  obtain ⟨v4, hv4, h⟩ := h
  refine m_iald S hK hM 54 rfl hv4 dX6_isKept_103 ?_
  replace h := ob h
  obtain ⟨σ5, hσ5, h⟩ := h
  refine m_iast S hK hM hS 54 rfl hσ5 dX6_isKept_104 (fun H locs hM hS => ?_)
  refine lv_aload_n hx hb dX6_isKept_105 rfl (lv_at hl 1 rfl) ?_
  refine m_get S hK hM 54 (Nat.le_of_ble_eq_true rfl) q1786 (v := .ref (ma b 54)) rfl dX6_isKept_106 ?_
  refine lv_iload_n hx hb dX6_isKept_109 rfl (lv_at hl 0 rfl) ?_
  refine lv_iconst (v := (2 : Int32)) hx hb dX6_isKept_110 (by decide) ?_
  refine lv_iadd hx hb dX6_isKept_111 ?_
  refine lv_iload_n hx hb dX6_isKept_112 rfl (lv_at hl 2 rfl) ?_
  replace h := ob h
  obtain ⟨σ6, hσ6, h⟩ := h
  refine m_iast S hK hM hS 54 rfl hσ6 dX6_isKept_113 (fun H locs hM hS => ?_)
  refine lv_aload_n hx hb dX6_isKept_114 rfl (lv_at hl 1 rfl) ?_
  refine m_get S hK hM 54 (Nat.le_of_ble_eq_true rfl) q1786 (v := .ref (ma b 54)) rfl dX6_isKept_115 ?_
  refine lv_iload_n hx hb dX6_isKept_118 rfl (lv_at hl 0 rfl) ?_
  refine lv_iconst (v := (3 : Int32)) hx hb dX6_isKept_119 (by decide) ?_
  refine lv_iadd hx hb dX6_isKept_120 ?_
  refine lv_iload_n hx hb dX6_isKept_121 rfl (lv_at hl 3 rfl) ?_
  replace h := ob h
  obtain ⟨σ7, hσ7, h⟩ := h
  refine m_iast S hK hM hS 54 rfl hσ7 dX6_isKept_122 (fun H locs hM hS => ?_)
  exact m_vret S hr hlk hM hS h dX6_isKept_123
set_option maxHeartbeats 4000000 in
theorem wX6_isKept_23 {p : Program} {l : Launch} {e : Env} {s : State} {m : MethodId} {args : Array Value} {below : List Frame} {meth : Method} {c : Code} {G : mG} {b : Nat} (S : CallFix p m c cX6_isKept 4 s args lw_all RX6) (hr : meth.sig.returnType = none) (hlk : meth.locks = false) (hK : mK G s) {x : MS} : ∀ (n : Nat) (σ : MS) (a1 : Int32) (a2 : Int32) (a3 : Int32), fX6_isKept_23 n σ a1 a2 a3 = some x → mGo p l e rmX6_isKept s m args below meth c G b (MQ below (mQv G b x) args s 0 0 (mB b)) 4 23 [(0, .ref b), (1, .int a1), (2, .int a2), (3, .int a3)] [] σ := by
  obtain ⟨hx, hb, hml, hown, hts⟩ := id S
  intro n
  induction n with
  | zero => intro σ a1 a2 a3 h; cases h
  | succ n ih =>
    intro σ a1 a2 a3 h H locs hM hS ls hl
    rw [fX6_isKept_23] at h
    refine lv_iload_n hx hb dX6_isKept_23 rfl (lv_at hl 3 rfl) ?_
    refine lv_sipush (v := (253 : Int32)) hx hb dX6_isKept_24 (by decide) ?_
    refine lv_icmp_ge (tgt := 50) hx hb dX6_isKept_27 (by decide) (fun c1 => ?_) (fun c1 => ?_)
    · replace h := it c1 h
      refine lv_goto (tgt := 64) hx hb dX6_isKept_50 (by decide) ?_
      exact wX6_isKept_64 S hr hlk hK σ a1 a2 h _ _ hM hS _ (lv_sub hl [0, 1, 2] rfl)
    replace h := ie c1 h
    refine lv_aload_n hx hb dX6_isKept_30 rfl (lv_at hl 0 rfl) ?_
    refine m_get S hK hM 54 (Nat.le_of_ble_eq_true rfl) q1786 (v := .ref (ma b 54)) rfl dX6_isKept_31 ?_
    refine lv_iload_n hx hb dX6_isKept_34 rfl (lv_at hl 3 rfl) ?_
    refine lv_aload_n hx hb dX6_isKept_35 rfl (lv_at hl 0 rfl) ?_
    refine m_get S hK hM 54 (Nat.le_of_ble_eq_true rfl) q1786 (v := .ref (ma b 54)) rfl dX6_isKept_36 ?_
    refine lv_iload_n hx hb dX6_isKept_39 rfl (lv_at hl 3 rfl) ?_
    refine lv_iconst (v := (4 : Int32)) hx hb dX6_isKept_40 (by decide) ?_
    refine lv_iadd hx hb dX6_isKept_41 ?_
    replace h := ob h
    obtain ⟨v2, hv2, h⟩ := h
    refine m_iald S hK hM 54 rfl hv2 dX6_isKept_42 ?_
    replace h := ob h
    obtain ⟨σ3, hσ3, h⟩ := h
    refine m_iast S hK hM hS 54 rfl hσ3 dX6_isKept_43 (fun H locs hM hS => ?_)
    refine lv_iinc (v := (a3 + (1 : Int32))) (lv' := [(3, .int (a3 + (1 : Int32))), (0, .ref b), (1, .int a1), (2, .int a2)]) hx hb dX6_isKept_44 hl (k := 3) rfl rfl (by decide) rfl (fun ls hl => ?_)
    refine lv_goto (tgt := 23) hx hb dX6_isKept_47 (by decide) ?_
    exact ih σ3 a1 a2 (a3 + (1 : Int32)) h _ _ hM hS _ (lv_sub hl [1, 2, 3, 0] rfl)
set_option maxHeartbeats 4000000 in
theorem metX6_isKept {l : Launch} {G : mG} {b : Nat} {σ : MS} {a1 : Int32} {a2 : Int32} {x : MS} (h : fX6_isKept σ a1 a2 = some x) : Met l yX6_isKept (ws_ yX6_isKept cX6_isKept 4 (none)) rmX6_isKept (mP G b σ [.ref b, .int a1, .int a2]) (mQv G b x) 0 0 (mB b) := by
  refine m_entry (by decide) rfl (Nat.le_of_ble_eq_true rfl) ?_
  intro p e s m below meth c S hr hlk hK hM hS ls hl
  replace hl : lv_has ls 4 [(0, .ref b), (1, .int a1), (2, .int a2)] := hl
  obtain ⟨hx, hb, hml, hown, hts⟩ := id S
  unfold fX6_isKept at h
  refine lv_aload_n hx hb dX6_isKept_0 rfl (lv_at hl 0 rfl) ?_
  refine m_get S hK hM 60 (Nat.le_of_ble_eq_true rfl) q1792 (v := .int (σ.1 60)) rfl dX6_isKept_1 ?_
  refine lv_if_eq (tgt := 8) hx hb dX6_isKept_4 (by decide) (fun c1 => ?_) (fun c1 => ?_)
  rotate_left 1
  · replace h := ie c1 h
    exact m_vret S hr hlk hM hS h dX6_isKept_7
  replace h := it c1 h
  refine lv_aload_n hx hb dX6_isKept_8 rfl (lv_at hl 0 rfl) ?_
  refine m_get S hK hM 54 (Nat.le_of_ble_eq_true rfl) q1786 (v := .ref (ma b 54)) rfl dX6_isKept_9 ?_
  refine lv_bipush (v := (96 : Int32)) hx hb dX6_isKept_12 (by decide) ?_
  replace h := ob h
  obtain ⟨v2, hv2, h⟩ := h
  refine m_iald S hK hM 54 rfl hv2 dX6_isKept_14 ?_
  refine lv_bipush (v := (40 : Int32)) hx hb dX6_isKept_15 (by decide) ?_
  refine lv_icmp_ne (tgt := 53) hx hb dX6_isKept_17 (by decide) (fun c3 => ?_) (fun c3 => ?_)
  rotate_left 1
  · replace h := it c3 h
    refine lv_bipush (v := (97 : Int32)) hx hb dX6_isKept_20 (by decide) ?_
    refine lv_istore_n (lv' := [(3, .int (97 : Int32)), (0, .ref b), (1, .int a1), (2, .int a2)]) hx hb dX6_isKept_22 rfl hl (by decide) rfl (fun ls hl => ?_)
    exact wX6_isKept_23 S hr hlk hK FU σ a1 a2 (97 : Int32) h _ _ hM hS _ (lv_sub hl [1, 2, 3, 0] rfl)
  replace h := ie c3 h
  refine lv_aload_n hx hb dX6_isKept_53 rfl (lv_at hl 0 rfl) ?_
  refine m_get S hK hM 54 (Nat.le_of_ble_eq_true rfl) q1786 (v := .ref (ma b 54)) rfl dX6_isKept_54 ?_
  refine lv_bipush (v := (96 : Int32)) hx hb dX6_isKept_57 (by decide) ?_
  refine lv_dup2_11 hx hb dX6_isKept_59 rfl rfl ?_
  replace h := ob h
  obtain ⟨v4, hv4, h⟩ := h
  refine m_iald S hK hM 54 rfl hv4 dX6_isKept_60 ?_
  refine lv_iconst (v := (1 : Int32)) hx hb dX6_isKept_61 (by decide) ?_
  refine lv_iadd hx hb dX6_isKept_62 ?_
  replace h := ob h
  obtain ⟨σ5, hσ5, h⟩ := h
  refine m_iast S hK hM hS 54 rfl hσ5 dX6_isKept_63 (fun H locs hM hS => ?_)
  exact wX6_isKept_64 S hr hlk hK σ5 a1 a2 h _ _ hM hS _ (lv_sub hl [0, 1, 2] rfl)
theorem kX6_isKept {p : Program} {l : Launch} {e : Env} {R : Room} {s : State} {m : MethodId} {args : Array Value} {below : List Frame} {meth : Method} {c : Code} {H H0 : Heap} {locs : List Loc} {Q : State → Prop} {cc : ByteArray} {nL pc : Nat} {ls : Array Slot} {rest : List Value} {G : mG} {b : Nat} {σ : MS} {a1 : Int32} {a2 : Int32} {x : MS} (S : CallFix p m c cc nL s args lw_all RX6) (hK : mK G s) (hM : MW G b σ H) (hS : va_S (mB b) H0 H locs) (hf : fX6_isKept σ a1 a2 = some x) (hR : rmX6_isKept.frames + 1 ≤ R.frames ∧ 8 + (4 + 11) + rmX6_isKept.locals ≤ R.locals) (hsize : ls.size = nL) (hr : (rest.map fun v => v.category).sum ≤ 8) (hdg : decode cc pc = .ok (.invokevirtual 496, 3)) (kk : ∀ (H1 : Heap) (locs1 : List Loc), MW G b x H1 → va_S (mB b) H0 H1 locs1 → W p l e R s m args below meth c H1 locs1 0 0 Q (F0 m (pc + 3) ls (rest))) : W p l e R s m args below meth c H locs 0 0 Q (F0 m pc ls (.int a2 :: .int a1 :: .ref b :: rest)) :=
  m_cVv (As := [.int a1, .int a2]) S hK hM hS (metX6_isKept hf) (cwV 2 S.2.2.2.2 (lw_V q2435 q2437 qs141 q179 q2438) rfl rfl rfl (by decide +kernel) hR) ⟨Nat.zero_le _, Nat.zero_le _⟩ rfl hsize rfl hr hdg kk
/-! partSeen(II)V -/
abbrev rmX6_partSeen : Room := { frames := 5, cells := 0, slots := 0, locals := 92 }
def fX6_partSeen_117 (k17 : MS → Int32 → Int32 → Int32 → Option (MS)) (σ : MS) (a1 : Int32) (a2 : Int32) (a3 : Int32) : Option (MS) :=
  k17 σ a1 a2 (a3 + (1 : Int32))
def fX6_partSeen_86 (k17 : MS → Int32 → Int32 → Int32 → Option (MS)) (σ : MS) (a1 : Int32) (a2 : Int32) (a3 : Int32) (t0 : Int64) : Option (MS) :=
  if t0 ≤ (0 : Int64) then
    fX6_partSeen_117 k17 σ a1 a2 a3
  else
  (fX6_tasteAt σ a1 a3).bind fun x2 =>
  (fX6_cut σ (((σ.1 58).toInt64) + t0)).bind fun x3 =>
  (tI σ 54 x2 x3).bind fun σ4 =>
  fX6_partSeen_117 k17 σ4 a1 a2 a3
def fX6_partSeen_17 : Nat → MS → Int32 → Int32 → Int32 → Option (MS)
  | 0, _, _, _, _ => none
  | n + 1, σ, a1, a2, a3 =>
    (fX6_kindMany σ).bind fun x1 =>
    if x1 ≤ a3 then
      some σ
    else
    (fX6_weightOf σ a2 a3).bind fun x3 =>
    if x3 = 0 then
      fX6_partSeen_117 (fun σ' b1 b2 b3 => fX6_partSeen_17 n σ' b1 b2 b3) σ a1 a2 a3
    else
    (fX6_tasteAt σ a1 a3).bind fun x5 =>
    (aI σ 54 x5).bind fun v6 =>
    (fX6_weightOf (sI σ 58 v6) a2 a3).bind fun x7 =>
    (aI (sI (sI σ 58 v6) 59 x7) 48 (3 : Int32)).bind fun v8 =>
    if v8 = (-1 : Int32) then
      fX6_partSeen_86 (fun σ' b1 b2 b3 => fX6_partSeen_17 n σ' b1 b2 b3) (sI (sI σ 58 v6) 59 x7) a1 a2 a3 (((sI (sI σ 58 v6) 59 x7).1 59).toInt64)
    else
    (fX6_codesTell (sI (sI σ 58 v6) 59 x7) (0 : Int32) a2).bind fun x10 =>
    fX6_partSeen_86 (fun σ' b1 b2 b3 => fX6_partSeen_17 n σ' b1 b2 b3) x10.1 a1 a2 a3 x10.2
def fX6_partSeen (σ : MS) (a1 : Int32) (a2 : Int32) : Option (MS) :=
  (fX6_seenAt σ a1 a2).bind fun x1 =>
  (aI σ 54 x1).bind fun v2 =>
  (tI σ 54 x1 (v2 + (1 : Int32))).bind fun σ3 =>
  fX6_partSeen_17 FU σ3 a1 a2 (0 : Int32)
set_option maxHeartbeats 4000000 in
theorem wX6_partSeen_117 {p : Program} {l : Launch} {e : Env} {s : State} {m : MethodId} {args : Array Value} {below : List Frame} {meth : Method} {c : Code} {G : mG} {b : Nat} (S : CallFix p m c cX6_partSeen 6 s args lw_all RX6) (hr : meth.sig.returnType = none) (hlk : meth.locks = false) (hK : mK G s) {x : MS} {k17 : MS → Int32 → Int32 → Int32 → Option (MS)} (hk17 : ∀ σ a1 a2 a3, k17 σ a1 a2 a3 = some x → mGo p l e rmX6_partSeen s m args below meth c G b (MQ below (mQv G b x) args s 0 0 (mB b)) 6 17 [(0, .ref b), (1, .int a1), (2, .int a2), (3, .int a3)] [] σ) : ∀ (σ : MS) (a1 : Int32) (a2 : Int32) (a3 : Int32), fX6_partSeen_117 k17 σ a1 a2 a3 = some x → mGo p l e rmX6_partSeen s m args below meth c G b (MQ below (mQv G b x) args s 0 0 (mB b)) 6 117 [(0, .ref b), (1, .int a1), (2, .int a2), (3, .int a3)] [] σ := by
  obtain ⟨hx, hb, hml, hown, hts⟩ := id S
  intro σ a1 a2 a3 h H locs hM hS ls hl
  unfold fX6_partSeen_117 at h
  refine lv_iinc (v := (a3 + (1 : Int32))) (lv' := [(3, .int (a3 + (1 : Int32))), (0, .ref b), (1, .int a1), (2, .int a2)]) hx hb dX6_partSeen_117 hl (k := 3) rfl rfl (by decide) rfl (fun ls hl => ?_)
  refine lv_goto (tgt := 17) hx hb dX6_partSeen_120 (by decide) ?_
  exact hk17 σ a1 a2 (a3 + (1 : Int32)) h _ _ hM hS _ (lv_sub hl [1, 2, 3, 0] rfl)
set_option maxHeartbeats 4000000 in
theorem wX6_partSeen_86 {p : Program} {l : Launch} {e : Env} {s : State} {m : MethodId} {args : Array Value} {below : List Frame} {meth : Method} {c : Code} {G : mG} {b : Nat} (S : CallFix p m c cX6_partSeen 6 s args lw_all RX6) (hr : meth.sig.returnType = none) (hlk : meth.locks = false) (hK : mK G s) {x : MS} {k17 : MS → Int32 → Int32 → Int32 → Option (MS)} (hk17 : ∀ σ a1 a2 a3, k17 σ a1 a2 a3 = some x → mGo p l e rmX6_partSeen s m args below meth c G b (MQ below (mQv G b x) args s 0 0 (mB b)) 6 17 [(0, .ref b), (1, .int a1), (2, .int a2), (3, .int a3)] [] σ) : ∀ (σ : MS) (a1 : Int32) (a2 : Int32) (a3 : Int32) (t0 : Int64), fX6_partSeen_86 k17 σ a1 a2 a3 t0 = some x → mGo p l e rmX6_partSeen s m args below meth c G b (MQ below (mQv G b x) args s 0 0 (mB b)) 6 86 [(0, .ref b), (1, .int a1), (2, .int a2), (3, .int a3)] [.long t0] σ := by
  obtain ⟨hx, hb, hml, hown, hts⟩ := id S
  intro σ a1 a2 a3 t0 h H locs hM hS ls hl
  unfold fX6_partSeen_86 at h
  refine lv_lstore (lv' := [(4, .long t0), (0, .ref b), (1, .int a1), (2, .int a2), (3, .int a3)]) hx hb dX6_partSeen_86 hl (by decide) rfl (fun ls hl => ?_)
  refine lv_lload hx hb dX6_partSeen_88 (lv_at hl 0 rfl) ?_
  refine lv_lconst (v := (0 : Int64)) hx hb dX6_partSeen_90 (by decide) ?_
  refine m_lcmp S dX6_partSeen_91 ?_
  refine lv_if_le (tgt := 117) hx hb dX6_partSeen_92 (by decide) (fun c1 => ?_) (fun c1 => ?_)
  · replace h := it ((lg_cmp_le _ _).mp c1) h
    exact wX6_partSeen_117 S hr hlk hK hk17 σ a1 a2 a3 h _ _ hM hS _ (lv_sub hl [1, 2, 3, 4] rfl)
  replace h := ie (fun q => c1 ((lg_cmp_le _ _).mpr q)) h
  refine lv_aload_n hx hb dX6_partSeen_95 rfl (lv_at hl 1 rfl) ?_
  refine m_get S hK hM 54 (Nat.le_of_ble_eq_true rfl) q1786 (v := .ref (ma b 54)) rfl dX6_partSeen_96 ?_
  refine lv_aload_n hx hb dX6_partSeen_99 rfl (lv_at hl 1 rfl) ?_
  refine lv_iload_n hx hb dX6_partSeen_100 rfl (lv_at hl 2 rfl) ?_
  refine lv_iload_n hx hb dX6_partSeen_101 rfl (lv_at hl 4 rfl) ?_
  replace h := ob h
  obtain ⟨x2, hx2, h⟩ := h
  refine kX6_tasteAt S hK hM hS hx2 ⟨Nat.le_of_ble_eq_true rfl, Nat.le_of_ble_eq_true rfl⟩ hl.1 (Nat.le_of_ble_eq_true rfl) dX6_partSeen_102 (fun H locs hM hS => ?_)
  refine lv_aload_n hx hb dX6_partSeen_105 rfl (lv_at hl 1 rfl) ?_
  refine m_get S hK hM 58 (Nat.le_of_ble_eq_true rfl) q1790 (v := .int (σ.1 58)) rfl dX6_partSeen_106 ?_
  refine lv_i2l (v := (σ.1 58).toInt64) hx hb dX6_partSeen_109 rfl ?_
  refine lv_lload hx hb dX6_partSeen_110 (lv_at hl 0 rfl) ?_
  refine lv_ladd hx hb dX6_partSeen_112 ?_
  replace h := ob h
  obtain ⟨x3, hx3, h⟩ := h
  refine kX6_cut S hK hM hS hx3 ⟨Nat.le_of_ble_eq_true rfl, Nat.le_of_ble_eq_true rfl⟩ hl.1 (Nat.le_of_ble_eq_true rfl) dX6_partSeen_113 (fun H locs hM hS => ?_)
  replace h := ob h
  obtain ⟨σ4, hσ4, h⟩ := h
  refine m_iast S hK hM hS 54 rfl hσ4 dX6_partSeen_116 (fun H locs hM hS => ?_)
  exact wX6_partSeen_117 S hr hlk hK hk17 σ4 a1 a2 a3 h _ _ hM hS _ (lv_sub hl [1, 2, 3, 4] rfl)
set_option maxHeartbeats 4000000 in
theorem wX6_partSeen_17 {p : Program} {l : Launch} {e : Env} {s : State} {m : MethodId} {args : Array Value} {below : List Frame} {meth : Method} {c : Code} {G : mG} {b : Nat} (S : CallFix p m c cX6_partSeen 6 s args lw_all RX6) (hr : meth.sig.returnType = none) (hlk : meth.locks = false) (hK : mK G s) {x : MS} : ∀ (n : Nat) (σ : MS) (a1 : Int32) (a2 : Int32) (a3 : Int32), fX6_partSeen_17 n σ a1 a2 a3 = some x → mGo p l e rmX6_partSeen s m args below meth c G b (MQ below (mQv G b x) args s 0 0 (mB b)) 6 17 [(0, .ref b), (1, .int a1), (2, .int a2), (3, .int a3)] [] σ := by
  obtain ⟨hx, hb, hml, hown, hts⟩ := id S
  intro n
  induction n with
  | zero => intro σ a1 a2 a3 h; cases h
  | succ n ih =>
    intro σ a1 a2 a3 h H locs hM hS ls hl
    rw [fX6_partSeen_17] at h
    refine lv_iload_n hx hb dX6_partSeen_17 rfl (lv_at hl 3 rfl) ?_
    refine lv_aload_n hx hb dX6_partSeen_18 rfl (lv_at hl 0 rfl) ?_
    replace h := ob h
    obtain ⟨x1, hx1, h⟩ := h
    refine kX6_kindMany S hK hM hS hx1 ⟨Nat.le_of_ble_eq_true rfl, Nat.le_of_ble_eq_true rfl⟩ hl.1 (Nat.le_of_ble_eq_true rfl) dX6_partSeen_19 (fun H locs hM hS => ?_)
    refine lv_icmp_ge (tgt := 123) hx hb dX6_partSeen_22 (by decide) (fun c2 => ?_) (fun c2 => ?_)
    · replace h := it c2 h
      exact m_vret S hr hlk hM hS h dX6_partSeen_123
    replace h := ie c2 h
    refine lv_aload_n hx hb dX6_partSeen_25 rfl (lv_at hl 0 rfl) ?_
    refine lv_iload_n hx hb dX6_partSeen_26 rfl (lv_at hl 2 rfl) ?_
    refine lv_iload_n hx hb dX6_partSeen_27 rfl (lv_at hl 3 rfl) ?_
    replace h := ob h
    obtain ⟨x3, hx3, h⟩ := h
    refine kX6_weightOf S hK hM hS hx3 ⟨Nat.le_of_ble_eq_true rfl, Nat.le_of_ble_eq_true rfl⟩ hl.1 (Nat.le_of_ble_eq_true rfl) dX6_partSeen_28 (fun H locs hM hS => ?_)
    refine lv_if_ne (tgt := 37) hx hb dX6_partSeen_31 (by decide) (fun c4 => ?_) (fun c4 => ?_)
    rotate_left 1
    · replace h := it c4 h
      refine lv_goto (tgt := 117) hx hb dX6_partSeen_34 (by decide) ?_
      exact wX6_partSeen_117 S hr hlk hK ih σ a1 a2 a3 h _ _ hM hS _ (lv_sub hl [0, 1, 2, 3] rfl)
    replace h := ie c4 h
    refine lv_aload_n hx hb dX6_partSeen_37 rfl (lv_at hl 0 rfl) ?_
    refine lv_aload_n hx hb dX6_partSeen_38 rfl (lv_at hl 0 rfl) ?_
    refine m_get S hK hM 54 (Nat.le_of_ble_eq_true rfl) q1786 (v := .ref (ma b 54)) rfl dX6_partSeen_39 ?_
    refine lv_aload_n hx hb dX6_partSeen_42 rfl (lv_at hl 0 rfl) ?_
    refine lv_iload_n hx hb dX6_partSeen_43 rfl (lv_at hl 1 rfl) ?_
    refine lv_iload_n hx hb dX6_partSeen_44 rfl (lv_at hl 3 rfl) ?_
    replace h := ob h
    obtain ⟨x5, hx5, h⟩ := h
    refine kX6_tasteAt S hK hM hS hx5 ⟨Nat.le_of_ble_eq_true rfl, Nat.le_of_ble_eq_true rfl⟩ hl.1 (Nat.le_of_ble_eq_true rfl) dX6_partSeen_45 (fun H locs hM hS => ?_)
    replace h := ob h
    obtain ⟨v6, hv6, h⟩ := h
    refine m_iald S hK hM 54 rfl hv6 dX6_partSeen_48 ?_
    refine m_putI S hK hM hS 58 (Nat.le_of_ble_eq_true rfl) rfl q1790 rfl (ty := .int) rfl rfl rfl dX6_partSeen_49 (fun H locs hM hS => ?_)
    refine lv_aload_n hx hb dX6_partSeen_52 rfl (lv_at hl 0 rfl) ?_
    refine lv_aload_n hx hb dX6_partSeen_53 rfl (lv_at hl 0 rfl) ?_
    refine lv_iload_n hx hb dX6_partSeen_54 rfl (lv_at hl 2 rfl) ?_
    refine lv_iload_n hx hb dX6_partSeen_55 rfl (lv_at hl 3 rfl) ?_
    replace h := ob h
    obtain ⟨x7, hx7, h⟩ := h
    refine kX6_weightOf S hK hM hS hx7 ⟨Nat.le_of_ble_eq_true rfl, Nat.le_of_ble_eq_true rfl⟩ hl.1 (Nat.le_of_ble_eq_true rfl) dX6_partSeen_56 (fun H locs hM hS => ?_)
    refine m_putI S hK hM hS 59 (Nat.le_of_ble_eq_true rfl) rfl q1791 rfl (ty := .int) rfl rfl rfl dX6_partSeen_59 (fun H locs hM hS => ?_)
    refine lv_aload_n hx hb dX6_partSeen_62 rfl (lv_at hl 0 rfl) ?_
    refine m_get S hK hM 48 (Nat.le_of_ble_eq_true rfl) q1780 (v := .ref (ma b 48)) rfl dX6_partSeen_63 ?_
    refine lv_iconst (v := (3 : Int32)) hx hb dX6_partSeen_66 (by decide) ?_
    replace h := ob h
    obtain ⟨v8, hv8, h⟩ := h
    refine m_iald S hK hM 48 rfl hv8 dX6_partSeen_67 ?_
    refine lv_iconst (v := (-1 : Int32)) hx hb dX6_partSeen_68 (by decide) ?_
    refine lv_icmp_ne (tgt := 80) hx hb dX6_partSeen_69 (by decide) (fun c9 => ?_) (fun c9 => ?_)
    rotate_left 1
    · replace h := it c9 h
      refine lv_aload_n hx hb dX6_partSeen_72 rfl (lv_at hl 0 rfl) ?_
      refine m_get S hK hM 59 (Nat.le_of_ble_eq_true rfl) q1791 (v := .int ((sI (sI σ 58 v6) 59 x7).1 59)) rfl dX6_partSeen_73 ?_
      refine lv_i2l (v := ((sI (sI σ 58 v6) 59 x7).1 59).toInt64) hx hb dX6_partSeen_76 rfl ?_
      refine lv_goto (tgt := 86) hx hb dX6_partSeen_77 (by decide) ?_
      exact wX6_partSeen_86 S hr hlk hK ih (sI (sI σ 58 v6) 59 x7) a1 a2 a3 (((sI (sI σ 58 v6) 59 x7).1 59).toInt64) h _ _ hM hS _ (lv_sub hl [0, 1, 2, 3] rfl)
    replace h := ie c9 h
    refine lv_aload_n hx hb dX6_partSeen_80 rfl (lv_at hl 0 rfl) ?_
    refine lv_iconst (v := (0 : Int32)) hx hb dX6_partSeen_81 (by decide) ?_
    refine lv_iload_n hx hb dX6_partSeen_82 rfl (lv_at hl 2 rfl) ?_
    replace h := ob h
    obtain ⟨x10, hx10, h⟩ := h
    refine kX6_codesTell S hK hM hS hx10 ⟨Nat.le_of_ble_eq_true rfl, Nat.le_of_ble_eq_true rfl⟩ hl.1 (Nat.le_of_ble_eq_true rfl) dX6_partSeen_83 (fun H locs hM hS => ?_)
    exact wX6_partSeen_86 S hr hlk hK ih x10.1 a1 a2 a3 x10.2 h _ _ hM hS _ (lv_sub hl [0, 1, 2, 3] rfl)
set_option maxHeartbeats 4000000 in
theorem metX6_partSeen {l : Launch} {G : mG} {b : Nat} {σ : MS} {a1 : Int32} {a2 : Int32} {x : MS} (h : fX6_partSeen σ a1 a2 = some x) : Met l yX6_partSeen (ws_ yX6_partSeen cX6_partSeen 6 (none)) rmX6_partSeen (mP G b σ [.ref b, .int a1, .int a2]) (mQv G b x) 0 0 (mB b) := by
  refine m_entry (by decide) rfl (Nat.le_of_ble_eq_true rfl) ?_
  intro p e s m below meth c S hr hlk hK hM hS ls hl
  replace hl : lv_has ls 6 [(0, .ref b), (1, .int a1), (2, .int a2)] := hl
  obtain ⟨hx, hb, hml, hown, hts⟩ := id S
  unfold fX6_partSeen at h
  refine lv_aload_n hx hb dX6_partSeen_0 rfl (lv_at hl 0 rfl) ?_
  refine m_get S hK hM 54 (Nat.le_of_ble_eq_true rfl) q1786 (v := .ref (ma b 54)) rfl dX6_partSeen_1 ?_
  refine lv_aload_n hx hb dX6_partSeen_4 rfl (lv_at hl 0 rfl) ?_
  refine lv_iload_n hx hb dX6_partSeen_5 rfl (lv_at hl 1 rfl) ?_
  refine lv_iload_n hx hb dX6_partSeen_6 rfl (lv_at hl 2 rfl) ?_
  replace h := ob h
  obtain ⟨x1, hx1, h⟩ := h
  refine kX6_seenAt S hK hM hS hx1 ⟨Nat.le_of_ble_eq_true rfl, Nat.le_of_ble_eq_true rfl⟩ hl.1 (Nat.le_of_ble_eq_true rfl) dX6_partSeen_7 (fun H locs hM hS => ?_)
  refine lv_dup2_11 hx hb dX6_partSeen_10 rfl rfl ?_
  replace h := ob h
  obtain ⟨v2, hv2, h⟩ := h
  refine m_iald S hK hM 54 rfl hv2 dX6_partSeen_11 ?_
  refine lv_iconst (v := (1 : Int32)) hx hb dX6_partSeen_12 (by decide) ?_
  refine lv_iadd hx hb dX6_partSeen_13 ?_
  replace h := ob h
  obtain ⟨σ3, hσ3, h⟩ := h
  refine m_iast S hK hM hS 54 rfl hσ3 dX6_partSeen_14 (fun H locs hM hS => ?_)
  refine lv_iconst (v := (0 : Int32)) hx hb dX6_partSeen_15 (by decide) ?_
  refine lv_istore_n (lv' := [(3, .int (0 : Int32)), (0, .ref b), (1, .int a1), (2, .int a2)]) hx hb dX6_partSeen_16 rfl hl (by decide) rfl (fun ls hl => ?_)
  exact wX6_partSeen_17 S hr hlk hK FU σ3 a1 a2 (0 : Int32) h _ _ hM hS _ (lv_sub hl [1, 2, 3, 0] rfl)
theorem kX6_partSeen {p : Program} {l : Launch} {e : Env} {R : Room} {s : State} {m : MethodId} {args : Array Value} {below : List Frame} {meth : Method} {c : Code} {H H0 : Heap} {locs : List Loc} {Q : State → Prop} {cc : ByteArray} {nL pc : Nat} {ls : Array Slot} {rest : List Value} {G : mG} {b : Nat} {σ : MS} {a1 : Int32} {a2 : Int32} {x : MS} (S : CallFix p m c cc nL s args lw_all RX6) (hK : mK G s) (hM : MW G b σ H) (hS : va_S (mB b) H0 H locs) (hf : fX6_partSeen σ a1 a2 = some x) (hR : rmX6_partSeen.frames + 1 ≤ R.frames ∧ 8 + (6 + 11) + rmX6_partSeen.locals ≤ R.locals) (hsize : ls.size = nL) (hr : (rest.map fun v => v.category).sum ≤ 8) (hdg : decode cc pc = .ok (.invokevirtual 490, 3)) (kk : ∀ (H1 : Heap) (locs1 : List Loc), MW G b x H1 → va_S (mB b) H0 H1 locs1 → W p l e R s m args below meth c H1 locs1 0 0 Q (F0 m (pc + 3) ls (rest))) : W p l e R s m args below meth c H locs 0 0 Q (F0 m pc ls (.int a2 :: .int a1 :: .ref b :: rest)) :=
  m_cVv (As := [.int a1, .int a2]) S hK hM hS (metX6_partSeen hf) (cwV 2 S.2.2.2.2 (lw_V q2423 q2425 qs139 q179 q2426) rfl rfl rfl (by decide +kernel) hR) ⟨Nat.zero_le _, Nat.zero_le _⟩ rfl hsize rfl hr hdg kk
/-! pleasedBy(II)I -/
abbrev rmX6_pleasedBy : Room := { frames := 3, cells := 0, slots := 0, locals := 46 }
def fX6_pleasedBy_25 (σ : MS) (t0 : Int32) (t1 : Int32) : Option (Int32) :=
  some (t0 - t1)
def fX6_pleasedBy (σ : MS) (a1 : Int32) (a2 : Int32) : Option (Int32) :=
  (fX6_worthOf σ a1 a2).bind fun x1 =>
  (fX6_doesPress σ a1).bind fun x2 =>
  if x2 = 0 then
    fX6_pleasedBy_25 σ x1 (0 : Int32)
  else
  (aI σ 47 (6 : Int32)).bind fun v4 =>
  fX6_pleasedBy_25 σ x1 v4
set_option maxHeartbeats 4000000 in
theorem wX6_pleasedBy_25 {p : Program} {l : Launch} {e : Env} {s : State} {m : MethodId} {args : Array Value} {below : List Frame} {meth : Method} {c : Code} {G : mG} {b : Nat} {σ : MS} (S : CallFix p m c cX6_pleasedBy 3 s args lw_all RX6) (hr : meth.sig.returnType = some .int) (hlk : meth.locks = false) (hK : mK G s) {x : Int32} : ∀ (t0 : Int32) (t1 : Int32), fX6_pleasedBy_25 σ t0 t1 = some x → mGo p l e rmX6_pleasedBy s m args below meth c G b (MQ below (mQi G b (σ, x)) args s 0 0 (mB b)) 3 25 [(0, .ref b)] [.int t1, .int t0] σ := by
  obtain ⟨hx, hb, hml, hown, hts⟩ := id S
  intro t0 t1 h H locs hM hS ls hl
  unfold fX6_pleasedBy_25 at h
  refine lv_isub hx hb dX6_pleasedBy_25 ?_
  exact m_iret' S hr hlk rfl hM hS h dX6_pleasedBy_26
set_option maxHeartbeats 4000000 in
theorem metX6_pleasedBy {l : Launch} {G : mG} {b : Nat} {σ : MS} {a1 : Int32} {a2 : Int32} {x : Int32} (h : fX6_pleasedBy σ a1 a2 = some x) : Met l yX6_pleasedBy (ws_ yX6_pleasedBy cX6_pleasedBy 3 (some .int)) rmX6_pleasedBy (mP G b σ [.ref b, .int a1, .int a2]) (mQi G b (σ, x)) 0 0 (mB b) := by
  refine m_entry (by decide) rfl (Nat.le_of_ble_eq_true rfl) ?_
  intro p e s m below meth c S hr hlk hK hM hS ls hl
  replace hl : lv_has ls 3 [(0, .ref b), (1, .int a1), (2, .int a2)] := hl
  obtain ⟨hx, hb, hml, hown, hts⟩ := id S
  unfold fX6_pleasedBy at h
  refine lv_aload_n hx hb dX6_pleasedBy_0 rfl (lv_at hl 0 rfl) ?_
  refine lv_iload_n hx hb dX6_pleasedBy_1 rfl (lv_at hl 1 rfl) ?_
  refine lv_iload_n hx hb dX6_pleasedBy_2 rfl (lv_at hl 2 rfl) ?_
  replace h := ob h
  obtain ⟨x1, hx1, h⟩ := h
  refine kX6_worthOf S hK hM hS hx1 ⟨Nat.le_of_ble_eq_true rfl, Nat.le_of_ble_eq_true rfl⟩ hl.1 (Nat.le_of_ble_eq_true rfl) dX6_pleasedBy_3 (fun H locs hM hS => ?_)
  refine lv_aload_n hx hb dX6_pleasedBy_6 rfl (lv_at hl 0 rfl) ?_
  refine lv_iload_n hx hb dX6_pleasedBy_7 rfl (lv_at hl 1 rfl) ?_
  replace h := ob h
  obtain ⟨x2, hx2, h⟩ := h
  refine kX6_doesPress S hK hM hS hx2 ⟨Nat.le_of_ble_eq_true rfl, Nat.le_of_ble_eq_true rfl⟩ hl.1 (Nat.le_of_ble_eq_true rfl) dX6_pleasedBy_8 (fun H locs hM hS => ?_)
  refine lv_if_eq (tgt := 24) hx hb dX6_pleasedBy_11 (by decide) (fun c3 => ?_) (fun c3 => ?_)
  · replace h := it c3 h
    refine lv_iconst (v := (0 : Int32)) hx hb dX6_pleasedBy_24 (by decide) ?_
    exact wX6_pleasedBy_25 S hr hlk hK x1 (0 : Int32) h _ _ hM hS _ (lv_sub hl [0] rfl)
  replace h := ie c3 h
  refine lv_aload_n hx hb dX6_pleasedBy_14 rfl (lv_at hl 0 rfl) ?_
  refine m_get S hK hM 47 (Nat.le_of_ble_eq_true rfl) q1779 (v := .ref (ma b 47)) rfl dX6_pleasedBy_15 ?_
  refine lv_bipush (v := (6 : Int32)) hx hb dX6_pleasedBy_18 (by decide) ?_
  replace h := ob h
  obtain ⟨v4, hv4, h⟩ := h
  refine m_iald S hK hM 47 rfl hv4 dX6_pleasedBy_20 ?_
  refine lv_goto (tgt := 25) hx hb dX6_pleasedBy_21 (by decide) ?_
  exact wX6_pleasedBy_25 S hr hlk hK x1 v4 h _ _ hM hS _ (lv_sub hl [0] rfl)
theorem kX6_pleasedBy {p : Program} {l : Launch} {e : Env} {R : Room} {s : State} {m : MethodId} {args : Array Value} {below : List Frame} {meth : Method} {c : Code} {H H0 : Heap} {locs : List Loc} {Q : State → Prop} {cc : ByteArray} {nL pc : Nat} {ls : Array Slot} {rest : List Value} {G : mG} {b : Nat} {σ : MS} {a1 : Int32} {a2 : Int32} {x : Int32} (S : CallFix p m c cc nL s args lw_all RX6) (hK : mK G s) (hM : MW G b σ H) (hS : va_S (mB b) H0 H locs) (hf : fX6_pleasedBy σ a1 a2 = some x) (hR : rmX6_pleasedBy.frames + 1 ≤ R.frames ∧ 8 + (3 + 11) + rmX6_pleasedBy.locals ≤ R.locals) (hsize : ls.size = nL) (hr : (rest.map fun v => v.category).sum ≤ 8) (hdg : decode cc pc = .ok (.invokevirtual 487, 3)) (kk : ∀ (H1 : Heap) (locs1 : List Loc), MW G b σ H1 → va_S (mB b) H0 H1 locs1 → W p l e R s m args below meth c H1 locs1 0 0 Q (F0 m (pc + 3) ls (.int x :: rest))) : W p l e R s m args below meth c H locs 0 0 Q (F0 m pc ls (.int a2 :: .int a1 :: .ref b :: rest)) :=
  m_cVi (As := [.int a1, .int a2]) S hK hM hS (metX6_pleasedBy hf) (cwV 2 S.2.2.2.2 (lw_V q2419 q2421 qs138 q179 q2422) rfl rfl rfl (by decide +kernel) hR) ⟨Nat.zero_le _, Nat.zero_le _⟩ rfl hsize rfl hr hdg kk
/-! hourGoes()I -/
abbrev rmX6_hourGoes : Room := { frames := 7, cells := 0, slots := 0, locals := 138 }
def fX6_hourGoes_121 (k4 : MS → Int32 → Int32 → Option (MS × Int32)) (σ : MS) (a1 : Int32) (a2 : Int32) : Option (MS × Int32) :=
  k4 σ a1 (a2 + (1 : Int32))
def fX6_hourGoes_42 (k4 : MS → Int32 → Int32 → Option (MS × Int32)) (σ : MS) (a1 : Int32) (a2 : Int32) (t0 : Int32) : Option (MS × Int32) :=
  if t0 = (-1 : Int32) then
    fX6_hourGoes_121 k4 σ a1 a2
  else
  (aI σ 47 (4 : Int32)).bind fun v2 =>
  if a1 = v2 then
    (aI σ 63 a2).bind fun v12 =>
    (tI σ 63 a2 (v12 + (1 : Int32))).bind fun σ13 =>
    fX6_hourGoes_121 k4 σ13 a1 a2
  else
  (tI σ 61 a2 t0).bind fun σ4 =>
  (aL σ4 62 a2).bind fun v5 =>
  (fX6_pleasedBy σ4 a2 t0).bind fun x6 =>
  (tL σ4 62 a2 (v5 + x6.toInt64)).bind fun σ7 =>
  (fX6_profileOf σ7 a2).bind fun x8 =>
  (fX6_partSeen σ7 x8 t0).bind fun x9 =>
  (fX6_hasSeen x9 a2).bind fun x10 =>
  (fX6_isKept x10 a2 t0).bind fun x11 =>
  fX6_hourGoes_121 k4 x11 (a1 + (1 : Int32)) a2
def fX6_hourGoes_4 : Nat → MS → Int32 → Int32 → Option (MS × Int32)
  | 0, _, _, _ => none
  | n + 1, σ, a1, a2 =>
    (fX6_personMany σ).bind fun x1 =>
    if x1 ≤ a2 then
      (fX6_fade σ).bind fun x3 =>
      (aI x3 54 (1 : Int32)).bind fun v4 =>
      (tI x3 54 (1 : Int32) (v4 + (1 : Int32))).bind fun σ5 =>
      (aI σ5 54 (1 : Int32)).bind fun v6 =>
      if v6 = (24 : Int32) then
        (tI σ5 54 (1 : Int32) (0 : Int32)).bind fun σ8 =>
        (aI σ8 54 (0 : Int32)).bind fun v9 =>
        (tI σ8 54 (0 : Int32) (v9 + (1 : Int32))).bind fun σ10 =>
        some (σ10, a1)
      else
      some (σ5, a1)
    else
    (tI σ 61 a2 (-1 : Int32)).bind fun σ11 =>
    (aI σ11 54 (1 : Int32)).bind fun v12 =>
    (fX6_isFree σ11 a2 v12).bind fun x13 =>
    if x13 = 0 then
      fX6_hourGoes_42 (fun σ' b1 b2 => fX6_hourGoes_4 n σ' b1 b2) σ11 a1 a2 (-1 : Int32)
    else
    (fX6_suggestedTo σ11 a2).bind fun x15 =>
    fX6_hourGoes_42 (fun σ' b1 b2 => fX6_hourGoes_4 n σ' b1 b2) x15.1 a1 a2 x15.2
def fX6_hourGoes (σ : MS) : Option (MS × Int32) :=
  fX6_hourGoes_4 FU σ (0 : Int32) (0 : Int32)
set_option maxHeartbeats 4000000 in
theorem wX6_hourGoes_121 {p : Program} {l : Launch} {e : Env} {s : State} {m : MethodId} {args : Array Value} {below : List Frame} {meth : Method} {c : Code} {G : mG} {b : Nat} (S : CallFix p m c cX6_hourGoes 4 s args lw_all RX6) (hr : meth.sig.returnType = some .int) (hlk : meth.locks = false) (hK : mK G s) {x : MS × Int32} {k4 : MS → Int32 → Int32 → Option (MS × Int32)} (hk4 : ∀ σ a1 a2, k4 σ a1 a2 = some x → mGo p l e rmX6_hourGoes s m args below meth c G b (MQ below (mQi G b x) args s 0 0 (mB b)) 4 4 [(0, .ref b), (1, .int a1), (2, .int a2)] [] σ) : ∀ (σ : MS) (a1 : Int32) (a2 : Int32), fX6_hourGoes_121 k4 σ a1 a2 = some x → mGo p l e rmX6_hourGoes s m args below meth c G b (MQ below (mQi G b x) args s 0 0 (mB b)) 4 121 [(0, .ref b), (1, .int a1), (2, .int a2)] [] σ := by
  obtain ⟨hx, hb, hml, hown, hts⟩ := id S
  intro σ a1 a2 h H locs hM hS ls hl
  unfold fX6_hourGoes_121 at h
  refine lv_iinc (v := (a2 + (1 : Int32))) (lv' := [(2, .int (a2 + (1 : Int32))), (0, .ref b), (1, .int a1)]) hx hb dX6_hourGoes_121 hl (k := 2) rfl rfl (by decide) rfl (fun ls hl => ?_)
  refine lv_goto (tgt := 4) hx hb dX6_hourGoes_124 (by decide) ?_
  exact hk4 σ a1 (a2 + (1 : Int32)) h _ _ hM hS _ (lv_sub hl [1, 2, 0] rfl)
set_option maxHeartbeats 4000000 in
theorem wX6_hourGoes_42 {p : Program} {l : Launch} {e : Env} {s : State} {m : MethodId} {args : Array Value} {below : List Frame} {meth : Method} {c : Code} {G : mG} {b : Nat} (S : CallFix p m c cX6_hourGoes 4 s args lw_all RX6) (hr : meth.sig.returnType = some .int) (hlk : meth.locks = false) (hK : mK G s) {x : MS × Int32} {k4 : MS → Int32 → Int32 → Option (MS × Int32)} (hk4 : ∀ σ a1 a2, k4 σ a1 a2 = some x → mGo p l e rmX6_hourGoes s m args below meth c G b (MQ below (mQi G b x) args s 0 0 (mB b)) 4 4 [(0, .ref b), (1, .int a1), (2, .int a2)] [] σ) : ∀ (σ : MS) (a1 : Int32) (a2 : Int32) (t0 : Int32), fX6_hourGoes_42 k4 σ a1 a2 t0 = some x → mGo p l e rmX6_hourGoes s m args below meth c G b (MQ below (mQi G b x) args s 0 0 (mB b)) 4 42 [(0, .ref b), (1, .int a1), (2, .int a2)] [.int t0] σ := by
  obtain ⟨hx, hb, hml, hown, hts⟩ := id S
  intro σ a1 a2 t0 h H locs hM hS ls hl
  unfold fX6_hourGoes_42 at h
  refine lv_istore_n (lv' := [(3, .int t0), (0, .ref b), (1, .int a1), (2, .int a2)]) hx hb dX6_hourGoes_42 rfl hl (by decide) rfl (fun ls hl => ?_)
  refine lv_iload_n hx hb dX6_hourGoes_43 rfl (lv_at hl 0 rfl) ?_
  refine lv_iconst (v := (-1 : Int32)) hx hb dX6_hourGoes_44 (by decide) ?_
  refine lv_icmp_ne (tgt := 51) hx hb dX6_hourGoes_45 (by decide) (fun c1 => ?_) (fun c1 => ?_)
  rotate_left 1
  · replace h := it c1 h
    refine lv_goto (tgt := 121) hx hb dX6_hourGoes_48 (by decide) ?_
    exact wX6_hourGoes_121 S hr hlk hK hk4 σ a1 a2 h _ _ hM hS _ (lv_sub hl [1, 2, 3] rfl)
  replace h := ie c1 h
  refine lv_iload_n hx hb dX6_hourGoes_51 rfl (lv_at hl 2 rfl) ?_
  refine lv_aload_n hx hb dX6_hourGoes_52 rfl (lv_at hl 1 rfl) ?_
  refine m_get S hK hM 47 (Nat.le_of_ble_eq_true rfl) q1779 (v := .ref (ma b 47)) rfl dX6_hourGoes_53 ?_
  refine lv_iconst (v := (4 : Int32)) hx hb dX6_hourGoes_56 (by decide) ?_
  replace h := ob h
  obtain ⟨v2, hv2, h⟩ := h
  refine m_iald S hK hM 47 rfl hv2 dX6_hourGoes_57 ?_
  refine lv_icmp_ne (tgt := 74) hx hb dX6_hourGoes_58 (by decide) (fun c3 => ?_) (fun c3 => ?_)
  rotate_left 1
  · replace h := it c3 h
    refine lv_aload_n hx hb dX6_hourGoes_61 rfl (lv_at hl 1 rfl) ?_
    refine m_get S hK hM 63 (Nat.le_of_ble_eq_true rfl) q1795 (v := .ref (ma b 63)) rfl dX6_hourGoes_62 ?_
    refine lv_iload_n hx hb dX6_hourGoes_65 rfl (lv_at hl 3 rfl) ?_
    refine lv_dup2_11 hx hb dX6_hourGoes_66 rfl rfl ?_
    replace h := ob h
    obtain ⟨v12, hv12, h⟩ := h
    refine m_iald S hK hM 63 rfl hv12 dX6_hourGoes_67 ?_
    refine lv_iconst (v := (1 : Int32)) hx hb dX6_hourGoes_68 (by decide) ?_
    refine lv_iadd hx hb dX6_hourGoes_69 ?_
    replace h := ob h
    obtain ⟨σ13, hσ13, h⟩ := h
    refine m_iast S hK hM hS 63 rfl hσ13 dX6_hourGoes_70 (fun H locs hM hS => ?_)
    refine lv_goto (tgt := 121) hx hb dX6_hourGoes_71 (by decide) ?_
    exact wX6_hourGoes_121 S hr hlk hK hk4 σ13 a1 a2 h _ _ hM hS _ (lv_sub hl [1, 2, 3] rfl)
  replace h := ie c3 h
  refine lv_aload_n hx hb dX6_hourGoes_74 rfl (lv_at hl 1 rfl) ?_
  refine m_get S hK hM 61 (Nat.le_of_ble_eq_true rfl) q1793 (v := .ref (ma b 61)) rfl dX6_hourGoes_75 ?_
  refine lv_iload_n hx hb dX6_hourGoes_78 rfl (lv_at hl 3 rfl) ?_
  refine lv_iload_n hx hb dX6_hourGoes_79 rfl (lv_at hl 0 rfl) ?_
  replace h := ob h
  obtain ⟨σ4, hσ4, h⟩ := h
  refine m_iast S hK hM hS 61 rfl hσ4 dX6_hourGoes_80 (fun H locs hM hS => ?_)
  refine lv_iinc (v := (a1 + (1 : Int32))) (lv' := [(1, .int (a1 + (1 : Int32))), (3, .int t0), (0, .ref b), (2, .int a2)]) hx hb dX6_hourGoes_81 hl (k := 2) rfl rfl (by decide) rfl (fun ls hl => ?_)
  refine lv_aload_n hx hb dX6_hourGoes_84 rfl (lv_at hl 2 rfl) ?_
  refine m_get S hK hM 62 (Nat.le_of_ble_eq_true rfl) q1794 (v := .ref (ma b 62)) rfl dX6_hourGoes_85 ?_
  refine lv_iload_n hx hb dX6_hourGoes_88 rfl (lv_at hl 3 rfl) ?_
  refine lv_dup2_11 hx hb dX6_hourGoes_89 rfl rfl ?_
  replace h := ob h
  obtain ⟨v5, hv5, h⟩ := h
  refine m_lald S hK hM 62 rfl hv5 dX6_hourGoes_90 ?_
  refine lv_aload_n hx hb dX6_hourGoes_91 rfl (lv_at hl 2 rfl) ?_
  refine lv_iload_n hx hb dX6_hourGoes_92 rfl (lv_at hl 3 rfl) ?_
  refine lv_iload_n hx hb dX6_hourGoes_93 rfl (lv_at hl 1 rfl) ?_
  replace h := ob h
  obtain ⟨x6, hx6, h⟩ := h
  refine kX6_pleasedBy S hK hM hS hx6 ⟨Nat.le_of_ble_eq_true rfl, Nat.le_of_ble_eq_true rfl⟩ hl.1 (Nat.le_of_ble_eq_true rfl) dX6_hourGoes_94 (fun H locs hM hS => ?_)
  refine lv_i2l (v := x6.toInt64) hx hb dX6_hourGoes_97 rfl ?_
  refine lv_ladd hx hb dX6_hourGoes_98 ?_
  replace h := ob h
  obtain ⟨σ7, hσ7, h⟩ := h
  refine m_last S hK hM hS 62 rfl hσ7 dX6_hourGoes_99 (fun H locs hM hS => ?_)
  refine lv_aload_n hx hb dX6_hourGoes_100 rfl (lv_at hl 2 rfl) ?_
  refine lv_aload_n hx hb dX6_hourGoes_101 rfl (lv_at hl 2 rfl) ?_
  refine lv_iload_n hx hb dX6_hourGoes_102 rfl (lv_at hl 3 rfl) ?_
  replace h := ob h
  obtain ⟨x8, hx8, h⟩ := h
  refine kX6_profileOf S hK hM hS hx8 ⟨Nat.le_of_ble_eq_true rfl, Nat.le_of_ble_eq_true rfl⟩ hl.1 (Nat.le_of_ble_eq_true rfl) dX6_hourGoes_103 (fun H locs hM hS => ?_)
  refine lv_iload_n hx hb dX6_hourGoes_106 rfl (lv_at hl 1 rfl) ?_
  replace h := ob h
  obtain ⟨x9, hx9, h⟩ := h
  refine kX6_partSeen S hK hM hS hx9 ⟨Nat.le_of_ble_eq_true rfl, Nat.le_of_ble_eq_true rfl⟩ hl.1 (Nat.le_of_ble_eq_true rfl) dX6_hourGoes_107 (fun H locs hM hS => ?_)
  refine lv_aload_n hx hb dX6_hourGoes_110 rfl (lv_at hl 2 rfl) ?_
  refine lv_iload_n hx hb dX6_hourGoes_111 rfl (lv_at hl 3 rfl) ?_
  replace h := ob h
  obtain ⟨x10, hx10, h⟩ := h
  refine kX6_hasSeen S hK hM hS hx10 ⟨Nat.le_of_ble_eq_true rfl, Nat.le_of_ble_eq_true rfl⟩ hl.1 (Nat.le_of_ble_eq_true rfl) dX6_hourGoes_112 (fun H locs hM hS => ?_)
  refine lv_aload_n hx hb dX6_hourGoes_115 rfl (lv_at hl 2 rfl) ?_
  refine lv_iload_n hx hb dX6_hourGoes_116 rfl (lv_at hl 3 rfl) ?_
  refine lv_iload_n hx hb dX6_hourGoes_117 rfl (lv_at hl 1 rfl) ?_
  replace h := ob h
  obtain ⟨x11, hx11, h⟩ := h
  refine kX6_isKept S hK hM hS hx11 ⟨Nat.le_of_ble_eq_true rfl, Nat.le_of_ble_eq_true rfl⟩ hl.1 (Nat.le_of_ble_eq_true rfl) dX6_hourGoes_118 (fun H locs hM hS => ?_)
  exact wX6_hourGoes_121 S hr hlk hK hk4 x11 (a1 + (1 : Int32)) a2 h _ _ hM hS _ (lv_sub hl [2, 0, 3] rfl)
set_option maxHeartbeats 4000000 in
theorem wX6_hourGoes_4 {p : Program} {l : Launch} {e : Env} {s : State} {m : MethodId} {args : Array Value} {below : List Frame} {meth : Method} {c : Code} {G : mG} {b : Nat} (S : CallFix p m c cX6_hourGoes 4 s args lw_all RX6) (hr : meth.sig.returnType = some .int) (hlk : meth.locks = false) (hK : mK G s) {x : MS × Int32} : ∀ (n : Nat) (σ : MS) (a1 : Int32) (a2 : Int32), fX6_hourGoes_4 n σ a1 a2 = some x → mGo p l e rmX6_hourGoes s m args below meth c G b (MQ below (mQi G b x) args s 0 0 (mB b)) 4 4 [(0, .ref b), (1, .int a1), (2, .int a2)] [] σ := by
  obtain ⟨hx, hb, hml, hown, hts⟩ := id S
  intro n
  induction n with
  | zero => intro σ a1 a2 h; cases h
  | succ n ih =>
    intro σ a1 a2 h H locs hM hS ls hl
    rw [fX6_hourGoes_4] at h
    refine lv_iload_n hx hb dX6_hourGoes_4 rfl (lv_at hl 2 rfl) ?_
    refine lv_aload_n hx hb dX6_hourGoes_5 rfl (lv_at hl 0 rfl) ?_
    replace h := ob h
    obtain ⟨x1, hx1, h⟩ := h
    refine kX6_personMany S hK hM hS hx1 ⟨Nat.le_of_ble_eq_true rfl, Nat.le_of_ble_eq_true rfl⟩ hl.1 (Nat.le_of_ble_eq_true rfl) dX6_hourGoes_6 (fun H locs hM hS => ?_)
    refine lv_icmp_ge (tgt := 127) hx hb dX6_hourGoes_9 (by decide) (fun c2 => ?_) (fun c2 => ?_)
    rotate_left 1
    · replace h := ie c2 h
      refine lv_aload_n hx hb dX6_hourGoes_12 rfl (lv_at hl 0 rfl) ?_
      refine m_get S hK hM 61 (Nat.le_of_ble_eq_true rfl) q1793 (v := .ref (ma b 61)) rfl dX6_hourGoes_13 ?_
      refine lv_iload_n hx hb dX6_hourGoes_16 rfl (lv_at hl 2 rfl) ?_
      refine lv_iconst (v := (-1 : Int32)) hx hb dX6_hourGoes_17 (by decide) ?_
      replace h := ob h
      obtain ⟨σ11, hσ11, h⟩ := h
      refine m_iast S hK hM hS 61 rfl hσ11 dX6_hourGoes_18 (fun H locs hM hS => ?_)
      refine lv_aload_n hx hb dX6_hourGoes_19 rfl (lv_at hl 0 rfl) ?_
      refine lv_iload_n hx hb dX6_hourGoes_20 rfl (lv_at hl 2 rfl) ?_
      refine lv_aload_n hx hb dX6_hourGoes_21 rfl (lv_at hl 0 rfl) ?_
      refine m_get S hK hM 54 (Nat.le_of_ble_eq_true rfl) q1786 (v := .ref (ma b 54)) rfl dX6_hourGoes_22 ?_
      refine lv_iconst (v := (1 : Int32)) hx hb dX6_hourGoes_25 (by decide) ?_
      replace h := ob h
      obtain ⟨v12, hv12, h⟩ := h
      refine m_iald S hK hM 54 rfl hv12 dX6_hourGoes_26 ?_
      replace h := ob h
      obtain ⟨x13, hx13, h⟩ := h
      refine kX6_isFree S hK hM hS hx13 ⟨Nat.le_of_ble_eq_true rfl, Nat.le_of_ble_eq_true rfl⟩ hl.1 (Nat.le_of_ble_eq_true rfl) dX6_hourGoes_27 (fun H locs hM hS => ?_)
      refine lv_if_eq (tgt := 41) hx hb dX6_hourGoes_30 (by decide) (fun c14 => ?_) (fun c14 => ?_)
      · replace h := it c14 h
        refine lv_iconst (v := (-1 : Int32)) hx hb dX6_hourGoes_41 (by decide) ?_
        exact wX6_hourGoes_42 S hr hlk hK ih σ11 a1 a2 (-1 : Int32) h _ _ hM hS _ (lv_sub hl [0, 1, 2] rfl)
      replace h := ie c14 h
      refine lv_aload_n hx hb dX6_hourGoes_33 rfl (lv_at hl 0 rfl) ?_
      refine lv_iload_n hx hb dX6_hourGoes_34 rfl (lv_at hl 2 rfl) ?_
      replace h := ob h
      obtain ⟨x15, hx15, h⟩ := h
      refine kX6_suggestedTo S hK hM hS hx15 ⟨Nat.le_of_ble_eq_true rfl, Nat.le_of_ble_eq_true rfl⟩ hl.1 (Nat.le_of_ble_eq_true rfl) dX6_hourGoes_35 (fun H locs hM hS => ?_)
      refine lv_goto (tgt := 42) hx hb dX6_hourGoes_38 (by decide) ?_
      exact wX6_hourGoes_42 S hr hlk hK ih x15.1 a1 a2 x15.2 h _ _ hM hS _ (lv_sub hl [0, 1, 2] rfl)
    replace h := it c2 h
    refine lv_aload_n hx hb dX6_hourGoes_127 rfl (lv_at hl 0 rfl) ?_
    replace h := ob h
    obtain ⟨x3, hx3, h⟩ := h
    refine kX6_fade S hK hM hS hx3 ⟨Nat.le_of_ble_eq_true rfl, Nat.le_of_ble_eq_true rfl⟩ hl.1 (Nat.le_of_ble_eq_true rfl) dX6_hourGoes_128 (fun H locs hM hS => ?_)
    refine lv_aload_n hx hb dX6_hourGoes_131 rfl (lv_at hl 0 rfl) ?_
    refine m_get S hK hM 54 (Nat.le_of_ble_eq_true rfl) q1786 (v := .ref (ma b 54)) rfl dX6_hourGoes_132 ?_
    refine lv_iconst (v := (1 : Int32)) hx hb dX6_hourGoes_135 (by decide) ?_
    refine lv_dup2_11 hx hb dX6_hourGoes_136 rfl rfl ?_
    replace h := ob h
    obtain ⟨v4, hv4, h⟩ := h
    refine m_iald S hK hM 54 rfl hv4 dX6_hourGoes_137 ?_
    refine lv_iconst (v := (1 : Int32)) hx hb dX6_hourGoes_138 (by decide) ?_
    refine lv_iadd hx hb dX6_hourGoes_139 ?_
    replace h := ob h
    obtain ⟨σ5, hσ5, h⟩ := h
    refine m_iast S hK hM hS 54 rfl hσ5 dX6_hourGoes_140 (fun H locs hM hS => ?_)
    refine lv_aload_n hx hb dX6_hourGoes_141 rfl (lv_at hl 0 rfl) ?_
    refine m_get S hK hM 54 (Nat.le_of_ble_eq_true rfl) q1786 (v := .ref (ma b 54)) rfl dX6_hourGoes_142 ?_
    refine lv_iconst (v := (1 : Int32)) hx hb dX6_hourGoes_145 (by decide) ?_
    replace h := ob h
    obtain ⟨v6, hv6, h⟩ := h
    refine m_iald S hK hM 54 rfl hv6 dX6_hourGoes_146 ?_
    refine lv_bipush (v := (24 : Int32)) hx hb dX6_hourGoes_147 (by decide) ?_
    refine lv_icmp_ne (tgt := 169) hx hb dX6_hourGoes_149 (by decide) (fun c7 => ?_) (fun c7 => ?_)
    · replace h := ie c7 h
      refine lv_iload_n hx hb dX6_hourGoes_169 rfl (lv_at hl 1 rfl) ?_
      exact m_iret S hr hlk rfl hM hS h dX6_hourGoes_170
    replace h := it c7 h
    refine lv_aload_n hx hb dX6_hourGoes_152 rfl (lv_at hl 0 rfl) ?_
    refine m_get S hK hM 54 (Nat.le_of_ble_eq_true rfl) q1786 (v := .ref (ma b 54)) rfl dX6_hourGoes_153 ?_
    refine lv_iconst (v := (1 : Int32)) hx hb dX6_hourGoes_156 (by decide) ?_
    refine lv_iconst (v := (0 : Int32)) hx hb dX6_hourGoes_157 (by decide) ?_
    replace h := ob h
    obtain ⟨σ8, hσ8, h⟩ := h
    refine m_iast S hK hM hS 54 rfl hσ8 dX6_hourGoes_158 (fun H locs hM hS => ?_)
    refine lv_aload_n hx hb dX6_hourGoes_159 rfl (lv_at hl 0 rfl) ?_
    refine m_get S hK hM 54 (Nat.le_of_ble_eq_true rfl) q1786 (v := .ref (ma b 54)) rfl dX6_hourGoes_160 ?_
    refine lv_iconst (v := (0 : Int32)) hx hb dX6_hourGoes_163 (by decide) ?_
    refine lv_dup2_11 hx hb dX6_hourGoes_164 rfl rfl ?_
    replace h := ob h
    obtain ⟨v9, hv9, h⟩ := h
    refine m_iald S hK hM 54 rfl hv9 dX6_hourGoes_165 ?_
    refine lv_iconst (v := (1 : Int32)) hx hb dX6_hourGoes_166 (by decide) ?_
    refine lv_iadd hx hb dX6_hourGoes_167 ?_
    replace h := ob h
    obtain ⟨σ10, hσ10, h⟩ := h
    refine m_iast S hK hM hS 54 rfl hσ10 dX6_hourGoes_168 (fun H locs hM hS => ?_)
    refine lv_iload_n hx hb dX6_hourGoes_169 rfl (lv_at hl 1 rfl) ?_
    exact m_iret S hr hlk rfl hM hS h dX6_hourGoes_170
set_option maxHeartbeats 4000000 in
theorem metX6_hourGoes {l : Launch} {G : mG} {b : Nat} {σ : MS} {x : MS × Int32} (h : fX6_hourGoes σ = some x) : Met l yX6_hourGoes (ws_ yX6_hourGoes cX6_hourGoes 4 (some .int)) rmX6_hourGoes (mP G b σ [.ref b]) (mQi G b x) 0 0 (mB b) := by
  refine m_entry (by decide) rfl (Nat.le_of_ble_eq_true rfl) ?_
  intro p e s m below meth c S hr hlk hK hM hS ls hl
  replace hl : lv_has ls 4 [(0, .ref b)] := hl
  obtain ⟨hx, hb, hml, hown, hts⟩ := id S
  unfold fX6_hourGoes at h
  refine lv_iconst (v := (0 : Int32)) hx hb dX6_hourGoes_0 (by decide) ?_
  refine lv_istore_n (lv' := [(1, .int (0 : Int32)), (0, .ref b)]) hx hb dX6_hourGoes_1 rfl hl (by decide) rfl (fun ls hl => ?_)
  refine lv_iconst (v := (0 : Int32)) hx hb dX6_hourGoes_2 (by decide) ?_
  refine lv_istore_n (lv' := [(2, .int (0 : Int32)), (1, .int (0 : Int32)), (0, .ref b)]) hx hb dX6_hourGoes_3 rfl hl (by decide) rfl (fun ls hl => ?_)
  exact wX6_hourGoes_4 S hr hlk hK FU σ (0 : Int32) (0 : Int32) h _ _ hM hS _ (lv_sub hl [2, 1, 0] rfl)
theorem kX6_hourGoes {p : Program} {l : Launch} {e : Env} {R : Room} {s : State} {m : MethodId} {args : Array Value} {below : List Frame} {meth : Method} {c : Code} {H H0 : Heap} {locs : List Loc} {Q : State → Prop} {cc : ByteArray} {nL pc : Nat} {ls : Array Slot} {rest : List Value} {G : mG} {b : Nat} {σ : MS} {x : MS × Int32} (S : CallFix p m c cc nL s args lw_all RX6) (hK : mK G s) (hM : MW G b σ H) (hS : va_S (mB b) H0 H locs) (hf : fX6_hourGoes σ = some x) (hR : rmX6_hourGoes.frames + 1 ≤ R.frames ∧ 8 + (4 + 11) + rmX6_hourGoes.locals ≤ R.locals) (hsize : ls.size = nL) (hr : (rest.map fun v => v.category).sum ≤ 8) (hdg : decode cc pc = .ok (.invokevirtual 502, 3)) (kk : ∀ (H1 : Heap) (locs1 : List Loc), MW G b x.1 H1 → va_S (mB b) H0 H1 locs1 → W p l e R s m args below meth c H1 locs1 0 0 Q (F0 m (pc + 3) ls (.int x.2 :: rest))) : W p l e R s m args below meth c H locs 0 0 Q (F0 m pc ls (.ref b :: rest)) :=
  m_cVi (As := []) S hK hM hS (metX6_hourGoes hf) (cwV 0 S.2.2.2.2 (lw_V q2411 q2413 qs136 q179 q2414) rfl rfl rfl (by decide +kernel) hR) ⟨Nat.zero_le _, Nat.zero_le _⟩ rfl hsize rfl hr hdg kk
/-! hoursGo(I)I -/
abbrev rmX6_hoursGo : Room := { frames := 8, cells := 0, slots := 0, locals := 161 }
def fX6_hoursGo_31 : Nat → MS → Int32 → Int32 → Int32 → Option (MS × Int32)
  | 0, _, _, _, _ => none
  | n + 1, σ, a1, a2, a3 =>
    if a1 ≤ a3 then
      some (σ, a2)
    else
    (fX6_hourGoes σ).bind fun x2 =>
    fX6_hoursGo_31 n x2.1 a1 (a2 + x2.2) (a3 + (1 : Int32))
def fX6_hoursGo_4 : Nat → MS → Int32 → Int32 → Int32 → Option (MS × Int32)
  | 0, _, _, _, _ => none
  | n + 1, σ, a1, a2, a3 =>
    if (5 : Int32) ≤ a3 then
      fX6_hoursGo_31 FU σ a1 a2 (0 : Int32)
    else
    (tL σ 62 a3 (0 : Int64)).bind fun σ2 =>
    (tI σ2 63 a3 (0 : Int32)).bind fun σ3 =>
    fX6_hoursGo_4 n σ3 a1 a2 (a3 + (1 : Int32))
def fX6_hoursGo (σ : MS) (a1 : Int32) : Option (MS × Int32) :=
  fX6_hoursGo_4 FU σ a1 (0 : Int32) (0 : Int32)
set_option maxHeartbeats 4000000 in
theorem wX6_hoursGo_31 {p : Program} {l : Launch} {e : Env} {s : State} {m : MethodId} {args : Array Value} {below : List Frame} {meth : Method} {c : Code} {G : mG} {b : Nat} (S : CallFix p m c cX6_hoursGo 4 s args lw_all RX6) (hr : meth.sig.returnType = some .int) (hlk : meth.locks = false) (hK : mK G s) {x : MS × Int32} : ∀ (n : Nat) (σ : MS) (a1 : Int32) (a2 : Int32) (a3 : Int32), fX6_hoursGo_31 n σ a1 a2 a3 = some x → mGo p l e rmX6_hoursGo s m args below meth c G b (MQ below (mQi G b x) args s 0 0 (mB b)) 4 31 [(0, .ref b), (1, .int a1), (2, .int a2), (3, .int a3)] [] σ := by
  obtain ⟨hx, hb, hml, hown, hts⟩ := id S
  intro n
  induction n with
  | zero => intro σ a1 a2 a3 h; cases h
  | succ n ih =>
    intro σ a1 a2 a3 h H locs hM hS ls hl
    rw [fX6_hoursGo_31] at h
    refine lv_iload_n hx hb dX6_hoursGo_31 rfl (lv_at hl 3 rfl) ?_
    refine lv_iload_n hx hb dX6_hoursGo_32 rfl (lv_at hl 1 rfl) ?_
    refine lv_icmp_ge (tgt := 49) hx hb dX6_hoursGo_33 (by decide) (fun c1 => ?_) (fun c1 => ?_)
    · replace h := it c1 h
      refine lv_iload_n hx hb dX6_hoursGo_49 rfl (lv_at hl 2 rfl) ?_
      exact m_iret S hr hlk rfl hM hS h dX6_hoursGo_50
    replace h := ie c1 h
    refine lv_iload_n hx hb dX6_hoursGo_36 rfl (lv_at hl 2 rfl) ?_
    refine lv_aload_n hx hb dX6_hoursGo_37 rfl (lv_at hl 0 rfl) ?_
    replace h := ob h
    obtain ⟨x2, hx2, h⟩ := h
    refine kX6_hourGoes S hK hM hS hx2 ⟨Nat.le_of_ble_eq_true rfl, Nat.le_of_ble_eq_true rfl⟩ hl.1 (Nat.le_of_ble_eq_true rfl) dX6_hoursGo_38 (fun H locs hM hS => ?_)
    refine lv_iadd hx hb dX6_hoursGo_41 ?_
    refine lv_istore_n (lv' := [(2, .int (a2 + x2.2)), (0, .ref b), (1, .int a1), (3, .int a3)]) hx hb dX6_hoursGo_42 rfl hl (by decide) rfl (fun ls hl => ?_)
    refine lv_iinc (v := (a3 + (1 : Int32))) (lv' := [(3, .int (a3 + (1 : Int32))), (2, .int (a2 + x2.2)), (0, .ref b), (1, .int a1)]) hx hb dX6_hoursGo_43 hl (k := 3) rfl rfl (by decide) rfl (fun ls hl => ?_)
    refine lv_goto (tgt := 31) hx hb dX6_hoursGo_46 (by decide) ?_
    exact ih x2.1 a1 (a2 + x2.2) (a3 + (1 : Int32)) h _ _ hM hS _ (lv_sub hl [2, 3, 1, 0] rfl)
set_option maxHeartbeats 4000000 in
theorem wX6_hoursGo_4 {p : Program} {l : Launch} {e : Env} {s : State} {m : MethodId} {args : Array Value} {below : List Frame} {meth : Method} {c : Code} {G : mG} {b : Nat} (S : CallFix p m c cX6_hoursGo 4 s args lw_all RX6) (hr : meth.sig.returnType = some .int) (hlk : meth.locks = false) (hK : mK G s) {x : MS × Int32} : ∀ (n : Nat) (σ : MS) (a1 : Int32) (a2 : Int32) (a3 : Int32), fX6_hoursGo_4 n σ a1 a2 a3 = some x → mGo p l e rmX6_hoursGo s m args below meth c G b (MQ below (mQi G b x) args s 0 0 (mB b)) 4 4 [(0, .ref b), (1, .int a1), (2, .int a2), (3, .int a3)] [] σ := by
  obtain ⟨hx, hb, hml, hown, hts⟩ := id S
  intro n
  induction n with
  | zero => intro σ a1 a2 a3 h; cases h
  | succ n ih =>
    intro σ a1 a2 a3 h H locs hM hS ls hl
    rw [fX6_hoursGo_4] at h
    refine lv_iload_n hx hb dX6_hoursGo_4 rfl (lv_at hl 3 rfl) ?_
    refine lv_iconst (v := (5 : Int32)) hx hb dX6_hoursGo_5 (by decide) ?_
    refine lv_icmp_ge (tgt := 29) hx hb dX6_hoursGo_6 (by decide) (fun c1 => ?_) (fun c1 => ?_)
    · replace h := it c1 h
      refine lv_iconst (v := (0 : Int32)) hx hb dX6_hoursGo_29 (by decide) ?_
      refine lv_istore_n (lv' := [(3, .int (0 : Int32)), (0, .ref b), (1, .int a1), (2, .int a2)]) hx hb dX6_hoursGo_30 rfl hl (by decide) rfl (fun ls hl => ?_)
      exact wX6_hoursGo_31 S hr hlk hK FU σ a1 a2 (0 : Int32) h _ _ hM hS _ (lv_sub hl [1, 2, 3, 0] rfl)
    replace h := ie c1 h
    refine lv_aload_n hx hb dX6_hoursGo_9 rfl (lv_at hl 0 rfl) ?_
    refine m_get S hK hM 62 (Nat.le_of_ble_eq_true rfl) q1794 (v := .ref (ma b 62)) rfl dX6_hoursGo_10 ?_
    refine lv_iload_n hx hb dX6_hoursGo_13 rfl (lv_at hl 3 rfl) ?_
    refine lv_lconst (v := (0 : Int64)) hx hb dX6_hoursGo_14 (by decide) ?_
    replace h := ob h
    obtain ⟨σ2, hσ2, h⟩ := h
    refine m_last S hK hM hS 62 rfl hσ2 dX6_hoursGo_15 (fun H locs hM hS => ?_)
    refine lv_aload_n hx hb dX6_hoursGo_16 rfl (lv_at hl 0 rfl) ?_
    refine m_get S hK hM 63 (Nat.le_of_ble_eq_true rfl) q1795 (v := .ref (ma b 63)) rfl dX6_hoursGo_17 ?_
    refine lv_iload_n hx hb dX6_hoursGo_20 rfl (lv_at hl 3 rfl) ?_
    refine lv_iconst (v := (0 : Int32)) hx hb dX6_hoursGo_21 (by decide) ?_
    replace h := ob h
    obtain ⟨σ3, hσ3, h⟩ := h
    refine m_iast S hK hM hS 63 rfl hσ3 dX6_hoursGo_22 (fun H locs hM hS => ?_)
    refine lv_iinc (v := (a3 + (1 : Int32))) (lv' := [(3, .int (a3 + (1 : Int32))), (0, .ref b), (1, .int a1), (2, .int a2)]) hx hb dX6_hoursGo_23 hl (k := 3) rfl rfl (by decide) rfl (fun ls hl => ?_)
    refine lv_goto (tgt := 4) hx hb dX6_hoursGo_26 (by decide) ?_
    exact ih σ3 a1 a2 (a3 + (1 : Int32)) h _ _ hM hS _ (lv_sub hl [1, 2, 3, 0] rfl)
set_option maxHeartbeats 4000000 in
theorem metX6_hoursGo {l : Launch} {G : mG} {b : Nat} {σ : MS} {a1 : Int32} {x : MS × Int32} (h : fX6_hoursGo σ a1 = some x) : Met l yX6_hoursGo (ws_ yX6_hoursGo cX6_hoursGo 4 (some .int)) rmX6_hoursGo (mP G b σ [.ref b, .int a1]) (mQi G b x) 0 0 (mB b) := by
  refine m_entry (by decide) rfl (Nat.le_of_ble_eq_true rfl) ?_
  intro p e s m below meth c S hr hlk hK hM hS ls hl
  replace hl : lv_has ls 4 [(0, .ref b), (1, .int a1)] := hl
  obtain ⟨hx, hb, hml, hown, hts⟩ := id S
  unfold fX6_hoursGo at h
  refine lv_iconst (v := (0 : Int32)) hx hb dX6_hoursGo_0 (by decide) ?_
  refine lv_istore_n (lv' := [(2, .int (0 : Int32)), (0, .ref b), (1, .int a1)]) hx hb dX6_hoursGo_1 rfl hl (by decide) rfl (fun ls hl => ?_)
  refine lv_iconst (v := (0 : Int32)) hx hb dX6_hoursGo_2 (by decide) ?_
  refine lv_istore_n (lv' := [(3, .int (0 : Int32)), (2, .int (0 : Int32)), (0, .ref b), (1, .int a1)]) hx hb dX6_hoursGo_3 rfl hl (by decide) rfl (fun ls hl => ?_)
  exact wX6_hoursGo_4 S hr hlk hK FU σ a1 (0 : Int32) (0 : Int32) h _ _ hM hS _ (lv_sub hl [2, 3, 1, 0] rfl)
theorem kX6_hoursGo {p : Program} {l : Launch} {e : Env} {R : Room} {s : State} {m : MethodId} {args : Array Value} {below : List Frame} {meth : Method} {c : Code} {H H0 : Heap} {locs : List Loc} {Q : State → Prop} {cc : ByteArray} {nL pc : Nat} {ls : Array Slot} {rest : List Value} {G : mG} {b : Nat} {σ : MS} {a1 : Int32} {x : MS × Int32} (S : CallFix p m c cc nL s args lw_all RX6) (hK : mK G s) (hM : MW G b σ H) (hS : va_S (mB b) H0 H locs) (hf : fX6_hoursGo σ a1 = some x) (hR : rmX6_hoursGo.frames + 1 ≤ R.frames ∧ 8 + (4 + 11) + rmX6_hoursGo.locals ≤ R.locals) (hsize : ls.size = nL) (hr : (rest.map fun v => v.category).sum ≤ 8) (hdg : decode cc pc = .ok (.invokevirtual 539, 3)) (kk : ∀ (H1 : Heap) (locs1 : List Loc), MW G b x.1 H1 → va_S (mB b) H0 H1 locs1 → W p l e R s m args below meth c H1 locs1 0 0 Q (F0 m (pc + 3) ls (.int x.2 :: rest))) : W p l e R s m args below meth c H locs 0 0 Q (F0 m pc ls (.int a1 :: .ref b :: rest)) :=
  m_cVi (As := [.int a1]) S hK hM hS (metX6_hoursGo hf) (cwV 1 S.2.2.2.2 (lw_V q2407 q2409 qs135 q179 q2410) rfl rfl rfl (by decide +kernel) hR) ⟨Nat.zero_le _, Nat.zero_le _⟩ rfl hsize rfl hr hdg kk
/-! isAhead(III)Z -/
abbrev rmX6_isAhead : Room := { frames := 2, cells := 0, slots := 0, locals := 25 }
def fX6_isAhead (σ : MS) (a1 : Int32) (a2 : Int32) (a3 : Int32) : Option (Int32) :=
  (fX6_isIn σ a1.toInt64 a2.toInt64 a3.toInt64).bind fun x1 =>
  if x1 = 0 then
    some (0 : Int32)
  else
  (aI σ 54 (0 : Int32)).bind fun v3 =>
  (aI σ 54 (1 : Int32)).bind fun v4 =>
  if (23999 : Int32) < ((((24 : Int32) * v3) + v4) + a1) then
    some (0 : Int32)
  else
  some (1 : Int32)
set_option maxHeartbeats 4000000 in
theorem metX6_isAhead {l : Launch} {G : mG} {b : Nat} {σ : MS} {a1 : Int32} {a2 : Int32} {a3 : Int32} {x : Int32} (h : fX6_isAhead σ a1 a2 a3 = some x) : Met l yX6_isAhead (ws_ yX6_isAhead cX6_isAhead 4 (some .boolean)) rmX6_isAhead (mP G b σ [.ref b, .int a1, .int a2, .int a3]) (mQi G b (σ, x)) 0 0 (mB b) := by
  refine m_entry (by decide) rfl (Nat.le_of_ble_eq_true rfl) ?_
  intro p e s m below meth c S hr hlk hK hM hS ls hl
  replace hl : lv_has ls 4 [(0, .ref b), (1, .int a1), (2, .int a2), (3, .int a3)] := hl
  obtain ⟨hx, hb, hml, hown, hts⟩ := id S
  unfold fX6_isAhead at h
  refine lv_iload_n hx hb dX6_isAhead_0 rfl (lv_at hl 1 rfl) ?_
  refine lv_i2l (v := a1.toInt64) hx hb dX6_isAhead_1 rfl ?_
  refine lv_iload_n hx hb dX6_isAhead_2 rfl (lv_at hl 2 rfl) ?_
  refine lv_i2l (v := a2.toInt64) hx hb dX6_isAhead_3 rfl ?_
  refine lv_iload_n hx hb dX6_isAhead_4 rfl (lv_at hl 3 rfl) ?_
  refine lv_i2l (v := a3.toInt64) hx hb dX6_isAhead_5 rfl ?_
  replace h := ob h
  obtain ⟨x1, hx1, h⟩ := h
  refine kX6_isIn S hK hM hS hx1 ⟨Nat.le_of_ble_eq_true rfl, Nat.le_of_ble_eq_true rfl⟩ hl.1 (Nat.le_of_ble_eq_true rfl) dX6_isAhead_6 (fun H locs hM hS => ?_)
  refine lv_if_eq (tgt := 40) hx hb dX6_isAhead_9 (by decide) (fun c2 => ?_) (fun c2 => ?_)
  · replace h := it c2 h
    refine lv_iconst (v := (0 : Int32)) hx hb dX6_isAhead_40 (by decide) ?_
    exact m_iret' S hr hlk rfl hM hS h dX6_isAhead_41
  replace h := ie c2 h
  refine lv_bipush (v := (24 : Int32)) hx hb dX6_isAhead_12 (by decide) ?_
  refine lv_aload_n hx hb dX6_isAhead_14 rfl (lv_at hl 0 rfl) ?_
  refine m_get S hK hM 54 (Nat.le_of_ble_eq_true rfl) q1786 (v := .ref (ma b 54)) rfl dX6_isAhead_15 ?_
  refine lv_iconst (v := (0 : Int32)) hx hb dX6_isAhead_18 (by decide) ?_
  replace h := ob h
  obtain ⟨v3, hv3, h⟩ := h
  refine m_iald S hK hM 54 rfl hv3 dX6_isAhead_19 ?_
  refine lv_imul hx hb dX6_isAhead_20 ?_
  refine lv_aload_n hx hb dX6_isAhead_21 rfl (lv_at hl 0 rfl) ?_
  refine m_get S hK hM 54 (Nat.le_of_ble_eq_true rfl) q1786 (v := .ref (ma b 54)) rfl dX6_isAhead_22 ?_
  refine lv_iconst (v := (1 : Int32)) hx hb dX6_isAhead_25 (by decide) ?_
  replace h := ob h
  obtain ⟨v4, hv4, h⟩ := h
  refine m_iald S hK hM 54 rfl hv4 dX6_isAhead_26 ?_
  refine lv_iadd hx hb dX6_isAhead_27 ?_
  refine lv_iload_n hx hb dX6_isAhead_28 rfl (lv_at hl 1 rfl) ?_
  refine lv_iadd hx hb dX6_isAhead_29 ?_
  refine lv_sipush (v := (23999 : Int32)) hx hb dX6_isAhead_30 (by decide) ?_
  refine lv_icmp_gt (tgt := 40) hx hb dX6_isAhead_33 (by decide) (fun c5 => ?_) (fun c5 => ?_)
  · replace h := it c5 h
    refine lv_iconst (v := (0 : Int32)) hx hb dX6_isAhead_40 (by decide) ?_
    exact m_iret' S hr hlk rfl hM hS h dX6_isAhead_41
  replace h := ie c5 h
  refine lv_iconst (v := (1 : Int32)) hx hb dX6_isAhead_36 (by decide) ?_
  refine lv_goto (tgt := 41) hx hb dX6_isAhead_37 (by decide) ?_
  exact m_iret' S hr hlk rfl hM hS h dX6_isAhead_41
theorem kX6_isAhead {p : Program} {l : Launch} {e : Env} {R : Room} {s : State} {m : MethodId} {args : Array Value} {below : List Frame} {meth : Method} {c : Code} {H H0 : Heap} {locs : List Loc} {Q : State → Prop} {cc : ByteArray} {nL pc : Nat} {ls : Array Slot} {rest : List Value} {G : mG} {b : Nat} {σ : MS} {a1 : Int32} {a2 : Int32} {a3 : Int32} {x : Int32} (S : CallFix p m c cc nL s args lw_all RX6) (hK : mK G s) (hM : MW G b σ H) (hS : va_S (mB b) H0 H locs) (hf : fX6_isAhead σ a1 a2 a3 = some x) (hR : rmX6_isAhead.frames + 1 ≤ R.frames ∧ 8 + (4 + 11) + rmX6_isAhead.locals ≤ R.locals) (hsize : ls.size = nL) (hr : (rest.map fun v => v.category).sum ≤ 8) (hdg : decode cc pc = .ok (.invokevirtual 531, 3)) (kk : ∀ (H1 : Heap) (locs1 : List Loc), MW G b σ H1 → va_S (mB b) H0 H1 locs1 → W p l e R s m args below meth c H1 locs1 0 0 Q (F0 m (pc + 3) ls (.int x :: rest))) : W p l e R s m args below meth c H locs 0 0 Q (F0 m pc ls (.int a3 :: .int a2 :: .int a1 :: .ref b :: rest)) :=
  m_cVi (As := [.int a1, .int a2, .int a3]) S hK hM hS (metX6_isAhead hf) (cwV 3 S.2.2.2.2 (lw_V q2398 q2400 qs133 q179 q2401) rfl rfl rfl (by decide +kernel) hR) ⟨Nat.zero_le _, Nat.zero_le _⟩ rfl hsize rfl hr hdg kk
/-! putsAside()V -/
abbrev rmX6_putsAside : Room := { frames := 1, cells := 0, slots := 0, locals := 0 }
def fX6_putsAside_7 : Nat → MS → Int32 → Option (MS)
  | 0, _, _ => none
  | n + 1, σ, a1 =>
    if (96 : Int32) ≤ a1 then
      some σ
    else
    (aI σ 54 a1).bind fun v2 =>
    (tI σ 55 a1 v2).bind fun σ3 =>
    fX6_putsAside_7 n σ3 (a1 + (1 : Int32))
def fX6_putsAside (σ : MS) : Option (MS) :=
  fX6_putsAside_7 FU (sI σ 60 (1 : Int32)) (0 : Int32)
set_option maxHeartbeats 4000000 in
theorem wX6_putsAside_7 {p : Program} {l : Launch} {e : Env} {s : State} {m : MethodId} {args : Array Value} {below : List Frame} {meth : Method} {c : Code} {G : mG} {b : Nat} (S : CallFix p m c cX6_putsAside 2 s args lw_all RX6) (hr : meth.sig.returnType = none) (hlk : meth.locks = false) (hK : mK G s) {x : MS} : ∀ (n : Nat) (σ : MS) (a1 : Int32), fX6_putsAside_7 n σ a1 = some x → mGo p l e rmX6_putsAside s m args below meth c G b (MQ below (mQv G b x) args s 0 0 (mB b)) 2 7 [(0, .ref b), (1, .int a1)] [] σ := by
  obtain ⟨hx, hb, hml, hown, hts⟩ := id S
  intro n
  induction n with
  | zero => intro σ a1 h; cases h
  | succ n ih =>
    intro σ a1 h H locs hM hS ls hl
    rw [fX6_putsAside_7] at h
    refine lv_iload_n hx hb dX6_putsAside_7 rfl (lv_at hl 1 rfl) ?_
    refine lv_bipush (v := (96 : Int32)) hx hb dX6_putsAside_8 (by decide) ?_
    refine lv_icmp_ge (tgt := 31) hx hb dX6_putsAside_10 (by decide) (fun c1 => ?_) (fun c1 => ?_)
    · replace h := it c1 h
      exact m_vret S hr hlk hM hS h dX6_putsAside_31
    replace h := ie c1 h
    refine lv_aload_n hx hb dX6_putsAside_13 rfl (lv_at hl 0 rfl) ?_
    refine m_get S hK hM 55 (Nat.le_of_ble_eq_true rfl) q1787 (v := .ref (ma b 55)) rfl dX6_putsAside_14 ?_
    refine lv_iload_n hx hb dX6_putsAside_17 rfl (lv_at hl 1 rfl) ?_
    refine lv_aload_n hx hb dX6_putsAside_18 rfl (lv_at hl 0 rfl) ?_
    refine m_get S hK hM 54 (Nat.le_of_ble_eq_true rfl) q1786 (v := .ref (ma b 54)) rfl dX6_putsAside_19 ?_
    refine lv_iload_n hx hb dX6_putsAside_22 rfl (lv_at hl 1 rfl) ?_
    replace h := ob h
    obtain ⟨v2, hv2, h⟩ := h
    refine m_iald S hK hM 54 rfl hv2 dX6_putsAside_23 ?_
    replace h := ob h
    obtain ⟨σ3, hσ3, h⟩ := h
    refine m_iast S hK hM hS 55 rfl hσ3 dX6_putsAside_24 (fun H locs hM hS => ?_)
    refine lv_iinc (v := (a1 + (1 : Int32))) (lv' := [(1, .int (a1 + (1 : Int32))), (0, .ref b)]) hx hb dX6_putsAside_25 hl (k := 1) rfl rfl (by decide) rfl (fun ls hl => ?_)
    refine lv_goto (tgt := 7) hx hb dX6_putsAside_28 (by decide) ?_
    exact ih σ3 (a1 + (1 : Int32)) h _ _ hM hS _ (lv_sub hl [1, 0] rfl)
set_option maxHeartbeats 4000000 in
theorem metX6_putsAside {l : Launch} {G : mG} {b : Nat} {σ : MS} {x : MS} (h : fX6_putsAside σ = some x) : Met l yX6_putsAside (ws_ yX6_putsAside cX6_putsAside 2 (none)) rmX6_putsAside (mP G b σ [.ref b]) (mQv G b x) 0 0 (mB b) := by
  refine m_entry (by decide) rfl (Nat.le_of_ble_eq_true rfl) ?_
  intro p e s m below meth c S hr hlk hK hM hS ls hl
  replace hl : lv_has ls 2 [(0, .ref b)] := hl
  obtain ⟨hx, hb, hml, hown, hts⟩ := id S
  unfold fX6_putsAside at h
  refine lv_aload_n hx hb dX6_putsAside_0 rfl (lv_at hl 0 rfl) ?_
  refine lv_iconst (v := (1 : Int32)) hx hb dX6_putsAside_1 (by decide) ?_
  refine m_putI S hK hM hS 60 (Nat.le_of_ble_eq_true rfl) rfl q1792 rfl (ty := .boolean) rfl rfl rfl dX6_putsAside_2 (fun H locs hM hS => ?_)
  refine lv_iconst (v := (0 : Int32)) hx hb dX6_putsAside_5 (by decide) ?_
  refine lv_istore_n (lv' := [(1, .int (0 : Int32)), (0, .ref b)]) hx hb dX6_putsAside_6 rfl hl (by decide) rfl (fun ls hl => ?_)
  exact wX6_putsAside_7 S hr hlk hK FU (sI σ 60 (1 : Int32)) (0 : Int32) h _ _ hM hS _ (lv_sub hl [1, 0] rfl)
theorem kX6_putsAside {p : Program} {l : Launch} {e : Env} {R : Room} {s : State} {m : MethodId} {args : Array Value} {below : List Frame} {meth : Method} {c : Code} {H H0 : Heap} {locs : List Loc} {Q : State → Prop} {cc : ByteArray} {nL pc : Nat} {ls : Array Slot} {rest : List Value} {G : mG} {b : Nat} {σ : MS} {x : MS} (S : CallFix p m c cc nL s args lw_all RX6) (hK : mK G s) (hM : MW G b σ H) (hS : va_S (mB b) H0 H locs) (hf : fX6_putsAside σ = some x) (hR : rmX6_putsAside.frames + 1 ≤ R.frames ∧ 8 + (2 + 11) + rmX6_putsAside.locals ≤ R.locals) (hsize : ls.size = nL) (hr : (rest.map fun v => v.category).sum ≤ 8) (hdg : decode cc pc = .ok (.invokevirtual 536, 3)) (kk : ∀ (H1 : Heap) (locs1 : List Loc), MW G b x H1 → va_S (mB b) H0 H1 locs1 → W p l e R s m args below meth c H1 locs1 0 0 Q (F0 m (pc + 3) ls (rest))) : W p l e R s m args below meth c H locs 0 0 Q (F0 m pc ls (.ref b :: rest)) :=
  m_cVv (As := []) S hK hM hS (metX6_putsAside hf) (cwV 0 S.2.2.2.2 (lw_V q2403 q2405 qs134 q179 q2406) rfl rfl rfl (by decide +kernel) hR) ⟨Nat.zero_le _, Nat.zero_le _⟩ rfl hsize rfl hr hdg kk
/-! triesAnew()V -/
abbrev rmX6_triesAnew : Room := { frames := 1, cells := 0, slots := 0, locals := 0 }
def fX6_triesAnew_2 : Nat → MS → Int32 → Option (MS)
  | 0, _, _ => none
  | n + 1, σ, a1 =>
    if (96 : Int32) ≤ a1 then
      some σ
    else
    (aI σ 55 a1).bind fun v2 =>
    (tI σ 54 a1 v2).bind fun σ3 =>
    fX6_triesAnew_2 n σ3 (a1 + (1 : Int32))
def fX6_triesAnew (σ : MS) : Option (MS) :=
  fX6_triesAnew_2 FU σ (0 : Int32)
set_option maxHeartbeats 4000000 in
theorem wX6_triesAnew_2 {p : Program} {l : Launch} {e : Env} {s : State} {m : MethodId} {args : Array Value} {below : List Frame} {meth : Method} {c : Code} {G : mG} {b : Nat} (S : CallFix p m c cX6_triesAnew 2 s args lw_all RX6) (hr : meth.sig.returnType = none) (hlk : meth.locks = false) (hK : mK G s) {x : MS} : ∀ (n : Nat) (σ : MS) (a1 : Int32), fX6_triesAnew_2 n σ a1 = some x → mGo p l e rmX6_triesAnew s m args below meth c G b (MQ below (mQv G b x) args s 0 0 (mB b)) 2 2 [(0, .ref b), (1, .int a1)] [] σ := by
  obtain ⟨hx, hb, hml, hown, hts⟩ := id S
  intro n
  induction n with
  | zero => intro σ a1 h; cases h
  | succ n ih =>
    intro σ a1 h H locs hM hS ls hl
    rw [fX6_triesAnew_2] at h
    refine lv_iload_n hx hb dX6_triesAnew_2 rfl (lv_at hl 1 rfl) ?_
    refine lv_bipush (v := (96 : Int32)) hx hb dX6_triesAnew_3 (by decide) ?_
    refine lv_icmp_ge (tgt := 26) hx hb dX6_triesAnew_5 (by decide) (fun c1 => ?_) (fun c1 => ?_)
    · replace h := it c1 h
      exact m_vret S hr hlk hM hS h dX6_triesAnew_26
    replace h := ie c1 h
    refine lv_aload_n hx hb dX6_triesAnew_8 rfl (lv_at hl 0 rfl) ?_
    refine m_get S hK hM 54 (Nat.le_of_ble_eq_true rfl) q1786 (v := .ref (ma b 54)) rfl dX6_triesAnew_9 ?_
    refine lv_iload_n hx hb dX6_triesAnew_12 rfl (lv_at hl 1 rfl) ?_
    refine lv_aload_n hx hb dX6_triesAnew_13 rfl (lv_at hl 0 rfl) ?_
    refine m_get S hK hM 55 (Nat.le_of_ble_eq_true rfl) q1787 (v := .ref (ma b 55)) rfl dX6_triesAnew_14 ?_
    refine lv_iload_n hx hb dX6_triesAnew_17 rfl (lv_at hl 1 rfl) ?_
    replace h := ob h
    obtain ⟨v2, hv2, h⟩ := h
    refine m_iald S hK hM 55 rfl hv2 dX6_triesAnew_18 ?_
    replace h := ob h
    obtain ⟨σ3, hσ3, h⟩ := h
    refine m_iast S hK hM hS 54 rfl hσ3 dX6_triesAnew_19 (fun H locs hM hS => ?_)
    refine lv_iinc (v := (a1 + (1 : Int32))) (lv' := [(1, .int (a1 + (1 : Int32))), (0, .ref b)]) hx hb dX6_triesAnew_20 hl (k := 1) rfl rfl (by decide) rfl (fun ls hl => ?_)
    refine lv_goto (tgt := 2) hx hb dX6_triesAnew_23 (by decide) ?_
    exact ih σ3 (a1 + (1 : Int32)) h _ _ hM hS _ (lv_sub hl [1, 0] rfl)
set_option maxHeartbeats 4000000 in
theorem metX6_triesAnew {l : Launch} {G : mG} {b : Nat} {σ : MS} {x : MS} (h : fX6_triesAnew σ = some x) : Met l yX6_triesAnew (ws_ yX6_triesAnew cX6_triesAnew 2 (none)) rmX6_triesAnew (mP G b σ [.ref b]) (mQv G b x) 0 0 (mB b) := by
  refine m_entry (by decide) rfl (Nat.le_of_ble_eq_true rfl) ?_
  intro p e s m below meth c S hr hlk hK hM hS ls hl
  replace hl : lv_has ls 2 [(0, .ref b)] := hl
  obtain ⟨hx, hb, hml, hown, hts⟩ := id S
  unfold fX6_triesAnew at h
  refine lv_iconst (v := (0 : Int32)) hx hb dX6_triesAnew_0 (by decide) ?_
  refine lv_istore_n (lv' := [(1, .int (0 : Int32)), (0, .ref b)]) hx hb dX6_triesAnew_1 rfl hl (by decide) rfl (fun ls hl => ?_)
  exact wX6_triesAnew_2 S hr hlk hK FU σ (0 : Int32) h _ _ hM hS _ (lv_sub hl [1, 0] rfl)
theorem kX6_triesAnew {p : Program} {l : Launch} {e : Env} {R : Room} {s : State} {m : MethodId} {args : Array Value} {below : List Frame} {meth : Method} {c : Code} {H H0 : Heap} {locs : List Loc} {Q : State → Prop} {cc : ByteArray} {nL pc : Nat} {ls : Array Slot} {rest : List Value} {G : mG} {b : Nat} {σ : MS} {x : MS} (S : CallFix p m c cc nL s args lw_all RX6) (hK : mK G s) (hM : MW G b σ H) (hS : va_S (mB b) H0 H locs) (hf : fX6_triesAnew σ = some x) (hR : rmX6_triesAnew.frames + 1 ≤ R.frames ∧ 8 + (2 + 11) + rmX6_triesAnew.locals ≤ R.locals) (hsize : ls.size = nL) (hr : (rest.map fun v => v.category).sum ≤ 8) (hdg : decode cc pc = .ok (.invokevirtual 505, 3)) (kk : ∀ (H1 : Heap) (locs1 : List Loc), MW G b x H1 → va_S (mB b) H0 H1 locs1 → W p l e R s m args below meth c H1 locs1 0 0 Q (F0 m (pc + 3) ls (rest))) : W p l e R s m args below meth c H locs 0 0 Q (F0 m pc ls (.ref b :: rest)) :=
  m_cVv (As := []) S hK hM hS (metX6_triesAnew hf) (cwV 0 S.2.2.2.2 (lw_V q2447 q2449 qs144 q179 q2450) rfl rfl rfl (by decide +kernel) hR) ⟨Nat.zero_le _, Nat.zero_le _⟩ rfl hsize rfl hr hdg kk
/-! takesBack()V -/
abbrev rmX6_takesBack : Room := { frames := 2, cells := 0, slots := 0, locals := 21 }
def fX6_takesBack (σ : MS) : Option (MS) :=
  (fX6_triesAnew σ).bind fun x1 =>
  some (sI x1 60 (0 : Int32))
set_option maxHeartbeats 4000000 in
theorem metX6_takesBack {l : Launch} {G : mG} {b : Nat} {σ : MS} {x : MS} (h : fX6_takesBack σ = some x) : Met l yX6_takesBack (ws_ yX6_takesBack cX6_takesBack 1 (none)) rmX6_takesBack (mP G b σ [.ref b]) (mQv G b x) 0 0 (mB b) := by
  refine m_entry (by decide) rfl (Nat.le_of_ble_eq_true rfl) ?_
  intro p e s m below meth c S hr hlk hK hM hS ls hl
  replace hl : lv_has ls 1 [(0, .ref b)] := hl
  obtain ⟨hx, hb, hml, hown, hts⟩ := id S
  unfold fX6_takesBack at h
  refine lv_aload_n hx hb dX6_takesBack_0 rfl (lv_at hl 0 rfl) ?_
  replace h := ob h
  obtain ⟨x1, hx1, h⟩ := h
  refine kX6_triesAnew S hK hM hS hx1 ⟨Nat.le_of_ble_eq_true rfl, Nat.le_of_ble_eq_true rfl⟩ hl.1 (Nat.le_of_ble_eq_true rfl) dX6_takesBack_1 (fun H locs hM hS => ?_)
  refine lv_aload_n hx hb dX6_takesBack_4 rfl (lv_at hl 0 rfl) ?_
  refine lv_iconst (v := (0 : Int32)) hx hb dX6_takesBack_5 (by decide) ?_
  refine m_putI S hK hM hS 60 (Nat.le_of_ble_eq_true rfl) rfl q1792 rfl (ty := .boolean) rfl rfl rfl dX6_takesBack_6 (fun H locs hM hS => ?_)
  exact m_vret S hr hlk hM hS h dX6_takesBack_9
theorem kX6_takesBack {p : Program} {l : Launch} {e : Env} {R : Room} {s : State} {m : MethodId} {args : Array Value} {below : List Frame} {meth : Method} {c : Code} {H H0 : Heap} {locs : List Loc} {Q : State → Prop} {cc : ByteArray} {nL pc : Nat} {ls : Array Slot} {rest : List Value} {G : mG} {b : Nat} {σ : MS} {x : MS} (S : CallFix p m c cc nL s args lw_all RX6) (hK : mK G s) (hM : MW G b σ H) (hS : va_S (mB b) H0 H locs) (hf : fX6_takesBack σ = some x) (hR : rmX6_takesBack.frames + 1 ≤ R.frames ∧ 8 + (1 + 11) + rmX6_takesBack.locals ≤ R.locals) (hsize : ls.size = nL) (hr : (rest.map fun v => v.category).sum ≤ 8) (hdg : decode cc pc = .ok (.invokevirtual 542, 3)) (kk : ∀ (H1 : Heap) (locs1 : List Loc), MW G b x H1 → va_S (mB b) H0 H1 locs1 → W p l e R s m args below meth c H1 locs1 0 0 Q (F0 m (pc + 3) ls (rest))) : W p l e R s m args below meth c H locs 0 0 Q (F0 m pc ls (.ref b :: rest)) :=
  m_cVv (As := []) S hK hM hS (metX6_takesBack hf) (cwV 0 S.2.2.2.2 (lw_V q2443 q2445 qs143 q179 q2446) rfl rfl rfl (by decide +kernel) hR) ⟨Nat.zero_le _, Nat.zero_le _⟩ rfl hsize rfl hr hdg kk
/-! pleased(II)J -/
abbrev rmX6_pleased : Room := { frames := 9, cells := 0, slots := 0, locals := 184 }
def fX6_pleased_19 (σ : MS) : Option (MS × Int64) :=
  some (σ, (-1000000000000000 : Int64))
def fX6_pleased (σ : MS) (a1 : Int32) (a2 : Int32) : Option (MS × Int64) :=
  (fX6_isPerson σ a1).bind fun x1 =>
  if x1 = 0 then
    fX6_pleased_19 σ
  else
  (fX6_isAhead σ a2 (0 : Int32) (72 : Int32)).bind fun x3 =>
  if x3 = 0 then
    fX6_pleased_19 σ
  else
  (fX6_putsAside σ).bind fun x5 =>
  (fX6_hoursGo x5 a2).bind fun x6 =>
  (fX6_takesBack x6.1).bind fun x7 =>
  (aL x7 62 a1).bind fun v8 =>
  some (x7, v8)
set_option maxHeartbeats 4000000 in
theorem wX6_pleased_19 {p : Program} {l : Launch} {e : Env} {s : State} {m : MethodId} {args : Array Value} {below : List Frame} {meth : Method} {c : Code} {G : mG} {b : Nat} (S : CallFix p m c cX6_pleased 3 s args lw_all RX6) (hr : meth.sig.returnType = some .long) (hlk : meth.locks = false) (hK : mK G s) {x : MS × Int64} : ∀ (σ : MS), fX6_pleased_19 σ = some x → mGo p l e rmX6_pleased s m args below meth c G b (MQ below (mQl G b x) args s 0 0 (mB b)) 3 19 [(0, .ref b)] [] σ := by
  obtain ⟨hx, hb, hml, hown, hts⟩ := id S
  intro σ h H locs hM hS ls hl
  unfold fX6_pleased_19 at h
  refine lv_ldc2 hx hb hown (hts _ q2402) dX6_pleased_19 ?_
  exact m_lret S hr hlk hM hS h dX6_pleased_22
set_option maxHeartbeats 4000000 in
theorem metX6_pleased {l : Launch} {G : mG} {b : Nat} {σ : MS} {a1 : Int32} {a2 : Int32} {x : MS × Int64} (h : fX6_pleased σ a1 a2 = some x) : Met l yX6_pleased (ws_ yX6_pleased cX6_pleased 3 (some .long)) rmX6_pleased (mP G b σ [.ref b, .int a1, .int a2]) (mQl G b x) 0 0 (mB b) := by
  refine m_entry (by decide) rfl (Nat.le_of_ble_eq_true rfl) ?_
  intro p e s m below meth c S hr hlk hK hM hS ls hl
  replace hl : lv_has ls 3 [(0, .ref b), (1, .int a1), (2, .int a2)] := hl
  obtain ⟨hx, hb, hml, hown, hts⟩ := id S
  unfold fX6_pleased at h
  refine lv_aload_n hx hb dX6_pleased_0 rfl (lv_at hl 0 rfl) ?_
  refine lv_iload_n hx hb dX6_pleased_1 rfl (lv_at hl 1 rfl) ?_
  replace h := ob h
  obtain ⟨x1, hx1, h⟩ := h
  refine kX6_isPerson S hK hM hS hx1 ⟨Nat.le_of_ble_eq_true rfl, Nat.le_of_ble_eq_true rfl⟩ hl.1 (Nat.le_of_ble_eq_true rfl) dX6_pleased_2 (fun H locs hM hS => ?_)
  refine lv_if_eq (tgt := 19) hx hb dX6_pleased_5 (by decide) (fun c2 => ?_) (fun c2 => ?_)
  · replace h := it c2 h
    exact wX6_pleased_19 S hr hlk hK σ h _ _ hM hS _ (lv_sub hl [0] rfl)
  replace h := ie c2 h
  refine lv_aload_n hx hb dX6_pleased_8 rfl (lv_at hl 0 rfl) ?_
  refine lv_iload_n hx hb dX6_pleased_9 rfl (lv_at hl 2 rfl) ?_
  refine lv_iconst (v := (0 : Int32)) hx hb dX6_pleased_10 (by decide) ?_
  refine lv_bipush (v := (72 : Int32)) hx hb dX6_pleased_11 (by decide) ?_
  replace h := ob h
  obtain ⟨x3, hx3, h⟩ := h
  refine kX6_isAhead S hK hM hS hx3 ⟨Nat.le_of_ble_eq_true rfl, Nat.le_of_ble_eq_true rfl⟩ hl.1 (Nat.le_of_ble_eq_true rfl) dX6_pleased_13 (fun H locs hM hS => ?_)
  refine lv_if_ne (tgt := 23) hx hb dX6_pleased_16 (by decide) (fun c4 => ?_) (fun c4 => ?_)
  rotate_left 1
  · replace h := it c4 h
    exact wX6_pleased_19 S hr hlk hK σ h _ _ hM hS _ (lv_sub hl [0] rfl)
  replace h := ie c4 h
  refine lv_aload_n hx hb dX6_pleased_23 rfl (lv_at hl 0 rfl) ?_
  replace h := ob h
  obtain ⟨x5, hx5, h⟩ := h
  refine kX6_putsAside S hK hM hS hx5 ⟨Nat.le_of_ble_eq_true rfl, Nat.le_of_ble_eq_true rfl⟩ hl.1 (Nat.le_of_ble_eq_true rfl) dX6_pleased_24 (fun H locs hM hS => ?_)
  refine lv_aload_n hx hb dX6_pleased_27 rfl (lv_at hl 0 rfl) ?_
  refine lv_iload_n hx hb dX6_pleased_28 rfl (lv_at hl 2 rfl) ?_
  replace h := ob h
  obtain ⟨x6, hx6, h⟩ := h
  refine kX6_hoursGo S hK hM hS hx6 ⟨Nat.le_of_ble_eq_true rfl, Nat.le_of_ble_eq_true rfl⟩ hl.1 (Nat.le_of_ble_eq_true rfl) dX6_pleased_29 (fun H locs hM hS => ?_)
  refine lv_pop hx hb dX6_pleased_32 rfl ?_
  refine lv_aload_n hx hb dX6_pleased_33 rfl (lv_at hl 0 rfl) ?_
  replace h := ob h
  obtain ⟨x7, hx7, h⟩ := h
  refine kX6_takesBack S hK hM hS hx7 ⟨Nat.le_of_ble_eq_true rfl, Nat.le_of_ble_eq_true rfl⟩ hl.1 (Nat.le_of_ble_eq_true rfl) dX6_pleased_34 (fun H locs hM hS => ?_)
  refine lv_aload_n hx hb dX6_pleased_37 rfl (lv_at hl 0 rfl) ?_
  refine m_get S hK hM 62 (Nat.le_of_ble_eq_true rfl) q1794 (v := .ref (ma b 62)) rfl dX6_pleased_38 ?_
  refine lv_iload_n hx hb dX6_pleased_41 rfl (lv_at hl 1 rfl) ?_
  replace h := ob h
  obtain ⟨v8, hv8, h⟩ := h
  refine m_lald S hK hM 62 rfl hv8 dX6_pleased_42 ?_
  exact m_lret S hr hlk hM hS h dX6_pleased_43

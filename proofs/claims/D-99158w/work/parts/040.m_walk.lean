set_option maxRecDepth 100000
/-! feed(IIIII)I -/
abbrev rmX6_feed : Room := { frames := 1, cells := 0, slots := 0, locals := 0 }
def fX6_feed_81 (k28 : MS → Int32 → Int32 → Int32 → Int32 → Int32 → Int32 → Option (MS × Int32)) (σ : MS) (a1 : Int32) (a2 : Int32) (a3 : Int32) (a4 : Int32) (a5 : Int32) (a6 : Int32) (t0 : Int32) : Option (MS × Int32) :=
  (tI σ 0 (σ.1 1) ((t0 >>> (((8 : Int32) * ((3 : Int32) - (a6 - a6 / (4 : Int32) * (4 : Int32)))) &&& 31)) &&& (255 : Int32))).bind fun σ1 =>
  k28 (sI σ1 1 ((σ1.1 1) + (1 : Int32))) a1 a2 a3 a4 a5 (a6 + (1 : Int32))
def fX6_feed_28 : Nat → MS → Int32 → Int32 → Int32 → Int32 → Int32 → Int32 → Option (MS × Int32)
  | 0, _, _, _, _, _, _, _ => none
  | n + 1, σ, a1, a2, a3, a4, a5, a6 =>
    if (20 : Int32) ≤ a6 then
      some (σ, (σ.1 1))
    else
    if (4 : Int32) ≤ a6 then
      if (8 : Int32) ≤ a6 then
        if (12 : Int32) ≤ a6 then
          if (16 : Int32) ≤ a6 then
            fX6_feed_81 (fun σ' b1 b2 b3 b4 b5 b6 => fX6_feed_28 n σ' b1 b2 b3 b4 b5 b6) σ a1 a2 a3 a4 a5 a6 a5
          else
          fX6_feed_81 (fun σ' b1 b2 b3 b4 b5 b6 => fX6_feed_28 n σ' b1 b2 b3 b4 b5 b6) σ a1 a2 a3 a4 a5 a6 a4
        else
        fX6_feed_81 (fun σ' b1 b2 b3 b4 b5 b6 => fX6_feed_28 n σ' b1 b2 b3 b4 b5 b6) σ a1 a2 a3 a4 a5 a6 a3
      else
      fX6_feed_81 (fun σ' b1 b2 b3 b4 b5 b6 => fX6_feed_28 n σ' b1 b2 b3 b4 b5 b6) σ a1 a2 a3 a4 a5 a6 a2
    else
    fX6_feed_81 (fun σ' b1 b2 b3 b4 b5 b6 => fX6_feed_28 n σ' b1 b2 b3 b4 b5 b6) σ a1 a2 a3 a4 a5 a6 a1
def fX6_feed (σ : MS) (a1 : Int32) (a2 : Int32) (a3 : Int32) (a4 : Int32) (a5 : Int32) : Option (MS × Int32) :=
  if ((σ.1 1) + (20 : Int32)) ≤ (1600 : Int32) then
    fX6_feed_28 FU σ a1 a2 a3 a4 a5 (0 : Int32)
  else
  (aI σ 9 (0 : Int32)).bind fun v2 =>
  (tI σ 9 (0 : Int32) (v2 + (1 : Int32))).bind fun σ3 =>
  some (σ3, (-1 : Int32))
set_option maxHeartbeats 4000000 in
theorem wX6_feed_81 {p : Program} {l : Launch} {e : Env} {s : State} {m : MethodId} {args : Array Value} {below : List Frame} {meth : Method} {c : Code} {G : mG} {b : Nat} (S : CallFix p m c cX6_feed 8 s args lw_all RX6) (hr : meth.sig.returnType = some .int) (hlk : meth.locks = false) (hK : mK G s) {x : MS × Int32} {k28 : MS → Int32 → Int32 → Int32 → Int32 → Int32 → Int32 → Option (MS × Int32)} (hk28 : ∀ σ a1 a2 a3 a4 a5 a6, k28 σ a1 a2 a3 a4 a5 a6 = some x → mGo p l e rmX6_feed s m args below meth c G b (MQ below (mQi G b x) args s 0 0 (mB b)) 8 28 [(0, .ref b), (1, .int a1), (2, .int a2), (3, .int a3), (4, .int a4), (5, .int a5), (6, .int a6)] [] σ) : ∀ (σ : MS) (a1 : Int32) (a2 : Int32) (a3 : Int32) (a4 : Int32) (a5 : Int32) (a6 : Int32) (t0 : Int32), fX6_feed_81 k28 σ a1 a2 a3 a4 a5 a6 t0 = some x → mGo p l e rmX6_feed s m args below meth c G b (MQ below (mQi G b x) args s 0 0 (mB b)) 8 81 [(0, .ref b), (1, .int a1), (2, .int a2), (3, .int a3), (4, .int a4), (5, .int a5), (6, .int a6)] [.int t0] σ := by
  obtain ⟨hx, hb, hml, hown, hts⟩ := id S
  intro σ a1 a2 a3 a4 a5 a6 t0 h H locs hM hS ls hl
  unfold fX6_feed_81 at h
  refine lv_istore (lv' := [(7, .int t0), (0, .ref b), (1, .int a1), (2, .int a2), (3, .int a3), (4, .int a4), (5, .int a5), (6, .int a6)]) hx hb dX6_feed_81 hl (by decide) rfl (fun ls hl => ?_)
  refine lv_aload_n hx hb dX6_feed_83 rfl (lv_at hl 1 rfl) ?_
  refine m_get S hK hM 0 (Nat.le_of_ble_eq_true rfl) q1732 (v := .ref (ma b 0)) rfl dX6_feed_84 ?_
  refine lv_aload_n hx hb dX6_feed_87 rfl (lv_at hl 1 rfl) ?_
  refine m_get S hK hM 1 (Nat.le_of_ble_eq_true rfl) q1733 (v := .int (σ.1 1)) rfl dX6_feed_88 ?_
  refine lv_iload hx hb dX6_feed_91 (lv_at hl 0 rfl) ?_
  refine lv_bipush (v := (8 : Int32)) hx hb dX6_feed_93 (by decide) ?_
  refine lv_iconst (v := (3 : Int32)) hx hb dX6_feed_95 (by decide) ?_
  refine lv_iload hx hb dX6_feed_96 (lv_at hl 7 rfl) ?_
  refine lv_iconst (v := (4 : Int32)) hx hb dX6_feed_98 (by decide) ?_
  refine lv_irem hx hb dX6_feed_99 (by decide) ?_
  refine lv_isub hx hb dX6_feed_100 ?_
  refine lv_imul hx hb dX6_feed_101 ?_
  refine lv_ishr hx hb dX6_feed_102 ?_
  refine lv_sipush (v := (255 : Int32)) hx hb dX6_feed_103 (by decide) ?_
  refine lv_iand hx hb dX6_feed_106 ?_
  replace h := ob h
  obtain ⟨σ1, hσ1, h⟩ := h
  refine m_iast S hK hM hS 0 rfl hσ1 dX6_feed_107 (fun H locs hM hS => ?_)
  refine lv_aload_n hx hb dX6_feed_108 rfl (lv_at hl 1 rfl) ?_
  refine lv_dup hx hb dX6_feed_109 rfl ?_
  refine m_get S hK hM 1 (Nat.le_of_ble_eq_true rfl) q1733 (v := .int (σ1.1 1)) rfl dX6_feed_110 ?_
  refine lv_iconst (v := (1 : Int32)) hx hb dX6_feed_113 (by decide) ?_
  refine lv_iadd hx hb dX6_feed_114 ?_
  refine m_putI S hK hM hS 1 (Nat.le_of_ble_eq_true rfl) rfl q1733 rfl (ty := .int) rfl rfl rfl dX6_feed_115 (fun H locs hM hS => ?_)
  refine lv_iinc (v := (a6 + (1 : Int32))) (lv' := [(6, .int (a6 + (1 : Int32))), (7, .int t0), (0, .ref b), (1, .int a1), (2, .int a2), (3, .int a3), (4, .int a4), (5, .int a5)]) hx hb dX6_feed_118 hl (k := 7) rfl rfl (by decide) rfl (fun ls hl => ?_)
  refine lv_goto (tgt := 28) hx hb dX6_feed_121 (by decide) ?_
  exact hk28 (sI σ1 1 ((σ1.1 1) + (1 : Int32))) a1 a2 a3 a4 a5 (a6 + (1 : Int32)) h _ _ hM hS _ (lv_sub hl [2, 3, 4, 5, 6, 7, 0] rfl)
set_option maxHeartbeats 4000000 in
theorem wX6_feed_28 {p : Program} {l : Launch} {e : Env} {s : State} {m : MethodId} {args : Array Value} {below : List Frame} {meth : Method} {c : Code} {G : mG} {b : Nat} (S : CallFix p m c cX6_feed 8 s args lw_all RX6) (hr : meth.sig.returnType = some .int) (hlk : meth.locks = false) (hK : mK G s) {x : MS × Int32} : ∀ (n : Nat) (σ : MS) (a1 : Int32) (a2 : Int32) (a3 : Int32) (a4 : Int32) (a5 : Int32) (a6 : Int32), fX6_feed_28 n σ a1 a2 a3 a4 a5 a6 = some x → mGo p l e rmX6_feed s m args below meth c G b (MQ below (mQi G b x) args s 0 0 (mB b)) 8 28 [(0, .ref b), (1, .int a1), (2, .int a2), (3, .int a3), (4, .int a4), (5, .int a5), (6, .int a6)] [] σ := by
  obtain ⟨hx, hb, hml, hown, hts⟩ := id S
  intro n
  induction n with
  | zero => intro σ a1 a2 a3 a4 a5 a6 h; cases h
  | succ n ih =>
    intro σ a1 a2 a3 a4 a5 a6 h H locs hM hS ls hl
    rw [fX6_feed_28] at h
    refine lv_iload hx hb dX6_feed_28 (lv_at hl 6 rfl) ?_
    refine lv_bipush (v := (20 : Int32)) hx hb dX6_feed_30 (by decide) ?_
    refine lv_icmp_ge (tgt := 124) hx hb dX6_feed_32 (by decide) (fun c1 => ?_) (fun c1 => ?_)
    · replace h := it c1 h
      refine lv_aload_n hx hb dX6_feed_124 rfl (lv_at hl 0 rfl) ?_
      refine m_get S hK hM 1 (Nat.le_of_ble_eq_true rfl) q1733 (v := .int (σ.1 1)) rfl dX6_feed_125 ?_
      exact m_iret S hr hlk rfl hM hS h dX6_feed_128
    replace h := ie c1 h
    refine lv_iload hx hb dX6_feed_35 (lv_at hl 6 rfl) ?_
    refine lv_iconst (v := (4 : Int32)) hx hb dX6_feed_37 (by decide) ?_
    refine lv_icmp_ge (tgt := 45) hx hb dX6_feed_38 (by decide) (fun c2 => ?_) (fun c2 => ?_)
    rotate_left 1
    · replace h := ie c2 h
      refine lv_iload_n hx hb dX6_feed_41 rfl (lv_at hl 1 rfl) ?_
      refine lv_goto (tgt := 81) hx hb dX6_feed_42 (by decide) ?_
      exact wX6_feed_81 S hr hlk hK ih σ a1 a2 a3 a4 a5 a6 a1 h _ _ hM hS _ (lv_sub hl [0, 1, 2, 3, 4, 5, 6] rfl)
    replace h := it c2 h
    refine lv_iload hx hb dX6_feed_45 (lv_at hl 6 rfl) ?_
    refine lv_bipush (v := (8 : Int32)) hx hb dX6_feed_47 (by decide) ?_
    refine lv_icmp_ge (tgt := 56) hx hb dX6_feed_49 (by decide) (fun c3 => ?_) (fun c3 => ?_)
    rotate_left 1
    · replace h := ie c3 h
      refine lv_iload_n hx hb dX6_feed_52 rfl (lv_at hl 2 rfl) ?_
      refine lv_goto (tgt := 81) hx hb dX6_feed_53 (by decide) ?_
      exact wX6_feed_81 S hr hlk hK ih σ a1 a2 a3 a4 a5 a6 a2 h _ _ hM hS _ (lv_sub hl [0, 1, 2, 3, 4, 5, 6] rfl)
    replace h := it c3 h
    refine lv_iload hx hb dX6_feed_56 (lv_at hl 6 rfl) ?_
    refine lv_bipush (v := (12 : Int32)) hx hb dX6_feed_58 (by decide) ?_
    refine lv_icmp_ge (tgt := 67) hx hb dX6_feed_60 (by decide) (fun c4 => ?_) (fun c4 => ?_)
    rotate_left 1
    · replace h := ie c4 h
      refine lv_iload_n hx hb dX6_feed_63 rfl (lv_at hl 3 rfl) ?_
      refine lv_goto (tgt := 81) hx hb dX6_feed_64 (by decide) ?_
      exact wX6_feed_81 S hr hlk hK ih σ a1 a2 a3 a4 a5 a6 a3 h _ _ hM hS _ (lv_sub hl [0, 1, 2, 3, 4, 5, 6] rfl)
    replace h := it c4 h
    refine lv_iload hx hb dX6_feed_67 (lv_at hl 6 rfl) ?_
    refine lv_bipush (v := (16 : Int32)) hx hb dX6_feed_69 (by decide) ?_
    refine lv_icmp_ge (tgt := 79) hx hb dX6_feed_71 (by decide) (fun c5 => ?_) (fun c5 => ?_)
    · replace h := it c5 h
      refine lv_iload hx hb dX6_feed_79 (lv_at hl 5 rfl) ?_
      exact wX6_feed_81 S hr hlk hK ih σ a1 a2 a3 a4 a5 a6 a5 h _ _ hM hS _ (lv_sub hl [0, 1, 2, 3, 4, 5, 6] rfl)
    replace h := ie c5 h
    refine lv_iload hx hb dX6_feed_74 (lv_at hl 4 rfl) ?_
    refine lv_goto (tgt := 81) hx hb dX6_feed_76 (by decide) ?_
    exact wX6_feed_81 S hr hlk hK ih σ a1 a2 a3 a4 a5 a6 a4 h _ _ hM hS _ (lv_sub hl [0, 1, 2, 3, 4, 5, 6] rfl)
set_option maxHeartbeats 4000000 in
theorem metX6_feed {l : Launch} {G : mG} {b : Nat} {σ : MS} {a1 : Int32} {a2 : Int32} {a3 : Int32} {a4 : Int32} {a5 : Int32} {x : MS × Int32} (h : fX6_feed σ a1 a2 a3 a4 a5 = some x) : Met l yX6_feed (ws_ yX6_feed cX6_feed 8 (some .int)) rmX6_feed (mP G b σ [.ref b, .int a1, .int a2, .int a3, .int a4, .int a5]) (mQi G b x) 0 0 (mB b) := by
  refine m_entry (by decide) rfl (Nat.le_of_ble_eq_true rfl) ?_
  intro p e s m below meth c S hr hlk hK hM hS ls hl
  replace hl : lv_has ls 8 [(0, .ref b), (1, .int a1), (2, .int a2), (3, .int a3), (4, .int a4), (5, .int a5)] := hl
  obtain ⟨hx, hb, hml, hown, hts⟩ := id S
  unfold fX6_feed at h
  refine lv_aload_n hx hb dX6_feed_0 rfl (lv_at hl 0 rfl) ?_
  refine m_get S hK hM 1 (Nat.le_of_ble_eq_true rfl) q1733 (v := .int (σ.1 1)) rfl dX6_feed_1 ?_
  refine lv_bipush (v := (20 : Int32)) hx hb dX6_feed_4 (by decide) ?_
  refine lv_iadd hx hb dX6_feed_6 ?_
  refine lv_sipush (v := (1600 : Int32)) hx hb dX6_feed_7 (by decide) ?_
  refine lv_icmp_le (tgt := 25) hx hb dX6_feed_10 (by decide) (fun c1 => ?_) (fun c1 => ?_)
  · replace h := it c1 h
    refine lv_iconst (v := (0 : Int32)) hx hb dX6_feed_25 (by decide) ?_
    refine lv_istore (lv' := [(6, .int (0 : Int32)), (0, .ref b), (1, .int a1), (2, .int a2), (3, .int a3), (4, .int a4), (5, .int a5)]) hx hb dX6_feed_26 hl (by decide) rfl (fun ls hl => ?_)
    exact wX6_feed_28 S hr hlk hK FU σ a1 a2 a3 a4 a5 (0 : Int32) h _ _ hM hS _ (lv_sub hl [1, 2, 3, 4, 5, 6, 0] rfl)
  replace h := ie c1 h
  refine lv_aload_n hx hb dX6_feed_13 rfl (lv_at hl 0 rfl) ?_
  refine m_get S hK hM 9 (Nat.le_of_ble_eq_true rfl) q1741 (v := .ref (ma b 9)) rfl dX6_feed_14 ?_
  refine lv_iconst (v := (0 : Int32)) hx hb dX6_feed_17 (by decide) ?_
  refine lv_dup2_11 hx hb dX6_feed_18 rfl rfl ?_
  replace h := ob h
  obtain ⟨v2, hv2, h⟩ := h
  refine m_iald S hK hM 9 rfl hv2 dX6_feed_19 ?_
  refine lv_iconst (v := (1 : Int32)) hx hb dX6_feed_20 (by decide) ?_
  refine lv_iadd hx hb dX6_feed_21 ?_
  replace h := ob h
  obtain ⟨σ3, hσ3, h⟩ := h
  refine m_iast S hK hM hS 9 rfl hσ3 dX6_feed_22 (fun H locs hM hS => ?_)
  refine lv_iconst (v := (-1 : Int32)) hx hb dX6_feed_23 (by decide) ?_
  exact m_iret S hr hlk rfl hM hS h dX6_feed_24
/-! end(I)Z -/
abbrev rmX6_end : Room := { frames := 1, cells := 0, slots := 0, locals := 0 }
def fX6_end_12 (σ : MS) : Option (MS × Int32) :=
  (aI σ 9 (0 : Int32)).bind fun v1 =>
  (tI σ 9 (0 : Int32) (v1 + (1 : Int32))).bind fun σ2 =>
  some (σ2, (0 : Int32))
def fX6_end (σ : MS) (a1 : Int32) : Option (MS × Int32) :=
  if a1 < 0 then
    fX6_end_12 σ
  else
  if a1 ≤ (σ.1 1) then
    some ((sI σ 1 a1), (1 : Int32))
  else
  fX6_end_12 σ
set_option maxHeartbeats 4000000 in
theorem wX6_end_12 {p : Program} {l : Launch} {e : Env} {s : State} {m : MethodId} {args : Array Value} {below : List Frame} {meth : Method} {c : Code} {G : mG} {b : Nat} (S : CallFix p m c cX6_end 2 s args lw_all RX6) (hr : meth.sig.returnType = some .boolean) (hlk : meth.locks = false) (hK : mK G s) {x : MS × Int32} : ∀ (σ : MS), fX6_end_12 σ = some x → mGo p l e rmX6_end s m args below meth c G b (MQ below (mQi G b x) args s 0 0 (mB b)) 2 12 [(0, .ref b)] [] σ := by
  obtain ⟨hx, hb, hml, hown, hts⟩ := id S
  intro σ h H locs hM hS ls hl
  unfold fX6_end_12 at h
  refine lv_aload_n hx hb dX6_end_12 rfl (lv_at hl 0 rfl) ?_
  refine m_get S hK hM 9 (Nat.le_of_ble_eq_true rfl) q1741 (v := .ref (ma b 9)) rfl dX6_end_13 ?_
  refine lv_iconst (v := (0 : Int32)) hx hb dX6_end_16 (by decide) ?_
  refine lv_dup2_11 hx hb dX6_end_17 rfl rfl ?_
  replace h := ob h
  obtain ⟨v1, hv1, h⟩ := h
  refine m_iald S hK hM 9 rfl hv1 dX6_end_18 ?_
  refine lv_iconst (v := (1 : Int32)) hx hb dX6_end_19 (by decide) ?_
  refine lv_iadd hx hb dX6_end_20 ?_
  replace h := ob h
  obtain ⟨σ2, hσ2, h⟩ := h
  refine m_iast S hK hM hS 9 rfl hσ2 dX6_end_21 (fun H locs hM hS => ?_)
  refine lv_iconst (v := (0 : Int32)) hx hb dX6_end_22 (by decide) ?_
  exact m_iret S hr hlk rfl hM hS h dX6_end_23
set_option maxHeartbeats 4000000 in
theorem metX6_end {l : Launch} {G : mG} {b : Nat} {σ : MS} {a1 : Int32} {x : MS × Int32} (h : fX6_end σ a1 = some x) : Met l yX6_end (ws_ yX6_end cX6_end 2 (some .boolean)) rmX6_end (mP G b σ [.ref b, .int a1]) (mQi G b x) 0 0 (mB b) := by
  refine m_entry (by decide) rfl (Nat.le_of_ble_eq_true rfl) ?_
  intro p e s m below meth c S hr hlk hK hM hS ls hl
  replace hl : lv_has ls 2 [(0, .ref b), (1, .int a1)] := hl
  obtain ⟨hx, hb, hml, hown, hts⟩ := id S
  unfold fX6_end at h
  refine lv_iload_n hx hb dX6_end_0 rfl (lv_at hl 1 rfl) ?_
  refine lv_if_lt (tgt := 12) hx hb dX6_end_1 (by decide) (fun c1 => ?_) (fun c1 => ?_)
  · replace h := it c1 h
    exact wX6_end_12 S hr hlk hK σ h _ _ hM hS _ (lv_sub hl [0] rfl)
  replace h := ie c1 h
  refine lv_iload_n hx hb dX6_end_4 rfl (lv_at hl 1 rfl) ?_
  refine lv_aload_n hx hb dX6_end_5 rfl (lv_at hl 0 rfl) ?_
  refine m_get S hK hM 1 (Nat.le_of_ble_eq_true rfl) q1733 (v := .int (σ.1 1)) rfl dX6_end_6 ?_
  refine lv_icmp_le (tgt := 24) hx hb dX6_end_9 (by decide) (fun c2 => ?_) (fun c2 => ?_)
  rotate_left 1
  · replace h := ie c2 h
    exact wX6_end_12 S hr hlk hK σ h _ _ hM hS _ (lv_sub hl [0] rfl)
  replace h := it c2 h
  refine lv_aload_n hx hb dX6_end_24 rfl (lv_at hl 0 rfl) ?_
  refine lv_iload_n hx hb dX6_end_25 rfl (lv_at hl 1 rfl) ?_
  refine m_putI S hK hM hS 1 (Nat.le_of_ble_eq_true rfl) rfl q1733 rfl (ty := .int) rfl rfl rfl dX6_end_26 (fun H locs hM hS => ?_)
  refine lv_iconst (v := (1 : Int32)) hx hb dX6_end_29 (by decide) ?_
  exact m_iret S hr hlk rfl hM hS h dX6_end_30
/-! look()I -/
abbrev rmX6_look : Room := { frames := 1, cells := 0, slots := 0, locals := 0 }
def fX6_look_39 (k0 : MS → Option (MS × Int32)) (σ : MS) : Option (MS × Int32) :=
  k0 (sI σ 2 ((σ.1 2) + (1 : Int32)))
def fX6_look_52 (σ : MS) : Option (MS × Int32) :=
  if (σ.1 3) ≤ (σ.1 2) then
    some (σ, (-1 : Int32))
  else
  (aI σ 0 (σ.1 2)).bind fun v2 =>
  some (σ, v2)
def fX6_look_0 : Nat → MS → Option (MS × Int32)
  | 0, _ => none
  | n + 1, σ =>
    if (σ.1 3) ≤ (σ.1 2) then
      fX6_look_52 σ
    else
    (aI σ 0 (σ.1 2)).bind fun v2 =>
    if v2 = (10 : Int32) then
      fX6_look_39 (fun σ' => fX6_look_0 n σ') σ
    else
    (aI σ 0 (σ.1 2)).bind fun v4 =>
    if v4 = (32 : Int32) then
      fX6_look_39 (fun σ' => fX6_look_0 n σ') σ
    else
    fX6_look_52 σ
def fX6_look (σ : MS) : Option (MS × Int32) :=
  fX6_look_0 FU σ
set_option maxHeartbeats 4000000 in
theorem wX6_look_39 {p : Program} {l : Launch} {e : Env} {s : State} {m : MethodId} {args : Array Value} {below : List Frame} {meth : Method} {c : Code} {G : mG} {b : Nat} (S : CallFix p m c cX6_look 1 s args lw_all RX6) (hr : meth.sig.returnType = some .int) (hlk : meth.locks = false) (hK : mK G s) {x : MS × Int32} {k0 : MS → Option (MS × Int32)} (hk0 : ∀ σ, k0 σ = some x → mGo p l e rmX6_look s m args below meth c G b (MQ below (mQi G b x) args s 0 0 (mB b)) 1 0 [(0, .ref b)] [] σ) : ∀ (σ : MS), fX6_look_39 k0 σ = some x → mGo p l e rmX6_look s m args below meth c G b (MQ below (mQi G b x) args s 0 0 (mB b)) 1 39 [(0, .ref b)] [] σ := by
  obtain ⟨hx, hb, hml, hown, hts⟩ := id S
  intro σ h H locs hM hS ls hl
  unfold fX6_look_39 at h
  refine lv_aload_n hx hb dX6_look_39 rfl (lv_at hl 0 rfl) ?_
  refine lv_dup hx hb dX6_look_40 rfl ?_
  refine m_get S hK hM 2 (Nat.le_of_ble_eq_true rfl) q1734 (v := .int (σ.1 2)) rfl dX6_look_41 ?_
  refine lv_iconst (v := (1 : Int32)) hx hb dX6_look_44 (by decide) ?_
  refine lv_iadd hx hb dX6_look_45 ?_
  refine m_putI S hK hM hS 2 (Nat.le_of_ble_eq_true rfl) rfl q1734 rfl (ty := .int) rfl rfl rfl dX6_look_46 (fun H locs hM hS => ?_)
  refine lv_goto (tgt := 0) hx hb dX6_look_49 (by decide) ?_
  exact hk0 (sI σ 2 ((σ.1 2) + (1 : Int32))) h _ _ hM hS _ (lv_sub hl [0] rfl)
set_option maxHeartbeats 4000000 in
theorem wX6_look_52 {p : Program} {l : Launch} {e : Env} {s : State} {m : MethodId} {args : Array Value} {below : List Frame} {meth : Method} {c : Code} {G : mG} {b : Nat} (S : CallFix p m c cX6_look 1 s args lw_all RX6) (hr : meth.sig.returnType = some .int) (hlk : meth.locks = false) (hK : mK G s) {x : MS × Int32} : ∀ (σ : MS), fX6_look_52 σ = some x → mGo p l e rmX6_look s m args below meth c G b (MQ below (mQi G b x) args s 0 0 (mB b)) 1 52 [(0, .ref b)] [] σ := by
  obtain ⟨hx, hb, hml, hown, hts⟩ := id S
  intro σ h H locs hM hS ls hl
  unfold fX6_look_52 at h
  refine lv_aload_n hx hb dX6_look_52 rfl (lv_at hl 0 rfl) ?_
  refine m_get S hK hM 2 (Nat.le_of_ble_eq_true rfl) q1734 (v := .int (σ.1 2)) rfl dX6_look_53 ?_
  refine lv_aload_n hx hb dX6_look_56 rfl (lv_at hl 0 rfl) ?_
  refine m_get S hK hM 3 (Nat.le_of_ble_eq_true rfl) q1735 (v := .int (σ.1 3)) rfl dX6_look_57 ?_
  refine lv_icmp_ge (tgt := 75) hx hb dX6_look_60 (by decide) (fun c1 => ?_) (fun c1 => ?_)
  · replace h := it c1 h
    refine lv_iconst (v := (-1 : Int32)) hx hb dX6_look_75 (by decide) ?_
    exact m_iret S hr hlk rfl hM hS h dX6_look_76
  replace h := ie c1 h
  refine lv_aload_n hx hb dX6_look_63 rfl (lv_at hl 0 rfl) ?_
  refine m_get S hK hM 0 (Nat.le_of_ble_eq_true rfl) q1732 (v := .ref (ma b 0)) rfl dX6_look_64 ?_
  refine lv_aload_n hx hb dX6_look_67 rfl (lv_at hl 0 rfl) ?_
  refine m_get S hK hM 2 (Nat.le_of_ble_eq_true rfl) q1734 (v := .int (σ.1 2)) rfl dX6_look_68 ?_
  replace h := ob h
  obtain ⟨v2, hv2, h⟩ := h
  refine m_iald S hK hM 0 rfl hv2 dX6_look_71 ?_
  refine lv_goto (tgt := 76) hx hb dX6_look_72 (by decide) ?_
  exact m_iret S hr hlk rfl hM hS h dX6_look_76
set_option maxHeartbeats 4000000 in
theorem wX6_look_0 {p : Program} {l : Launch} {e : Env} {s : State} {m : MethodId} {args : Array Value} {below : List Frame} {meth : Method} {c : Code} {G : mG} {b : Nat} (S : CallFix p m c cX6_look 1 s args lw_all RX6) (hr : meth.sig.returnType = some .int) (hlk : meth.locks = false) (hK : mK G s) {x : MS × Int32} : ∀ (n : Nat) (σ : MS), fX6_look_0 n σ = some x → mGo p l e rmX6_look s m args below meth c G b (MQ below (mQi G b x) args s 0 0 (mB b)) 1 0 [(0, .ref b)] [] σ := by
  obtain ⟨hx, hb, hml, hown, hts⟩ := id S
  intro n
  induction n with
  | zero => intro σ h; cases h
  | succ n ih =>
    intro σ h H locs hM hS ls hl
    rw [fX6_look_0] at h
    refine lv_aload_n hx hb dX6_look_0 rfl (lv_at hl 0 rfl) ?_
    refine m_get S hK hM 2 (Nat.le_of_ble_eq_true rfl) q1734 (v := .int (σ.1 2)) rfl dX6_look_1 ?_
    refine lv_aload_n hx hb dX6_look_4 rfl (lv_at hl 0 rfl) ?_
    refine m_get S hK hM 3 (Nat.le_of_ble_eq_true rfl) q1735 (v := .int (σ.1 3)) rfl dX6_look_5 ?_
    refine lv_icmp_ge (tgt := 52) hx hb dX6_look_8 (by decide) (fun c1 => ?_) (fun c1 => ?_)
    · replace h := it c1 h
      exact wX6_look_52 S hr hlk hK σ h _ _ hM hS _ (lv_sub hl [0] rfl)
    replace h := ie c1 h
    refine lv_aload_n hx hb dX6_look_11 rfl (lv_at hl 0 rfl) ?_
    refine m_get S hK hM 0 (Nat.le_of_ble_eq_true rfl) q1732 (v := .ref (ma b 0)) rfl dX6_look_12 ?_
    refine lv_aload_n hx hb dX6_look_15 rfl (lv_at hl 0 rfl) ?_
    refine m_get S hK hM 2 (Nat.le_of_ble_eq_true rfl) q1734 (v := .int (σ.1 2)) rfl dX6_look_16 ?_
    replace h := ob h
    obtain ⟨v2, hv2, h⟩ := h
    refine m_iald S hK hM 0 rfl hv2 dX6_look_19 ?_
    refine lv_bipush (v := (10 : Int32)) hx hb dX6_look_20 (by decide) ?_
    refine lv_icmp_eq (tgt := 39) hx hb dX6_look_22 (by decide) (fun c3 => ?_) (fun c3 => ?_)
    · replace h := it c3 h
      exact wX6_look_39 S hr hlk hK ih σ h _ _ hM hS _ (lv_sub hl [0] rfl)
    replace h := ie c3 h
    refine lv_aload_n hx hb dX6_look_25 rfl (lv_at hl 0 rfl) ?_
    refine m_get S hK hM 0 (Nat.le_of_ble_eq_true rfl) q1732 (v := .ref (ma b 0)) rfl dX6_look_26 ?_
    refine lv_aload_n hx hb dX6_look_29 rfl (lv_at hl 0 rfl) ?_
    refine m_get S hK hM 2 (Nat.le_of_ble_eq_true rfl) q1734 (v := .int (σ.1 2)) rfl dX6_look_30 ?_
    replace h := ob h
    obtain ⟨v4, hv4, h⟩ := h
    refine m_iald S hK hM 0 rfl hv4 dX6_look_33 ?_
    refine lv_bipush (v := (32 : Int32)) hx hb dX6_look_34 (by decide) ?_
    refine lv_icmp_ne (tgt := 52) hx hb dX6_look_36 (by decide) (fun c5 => ?_) (fun c5 => ?_)
    · replace h := ie c5 h
      exact wX6_look_52 S hr hlk hK σ h _ _ hM hS _ (lv_sub hl [0] rfl)
    replace h := it c5 h
    exact wX6_look_39 S hr hlk hK ih σ h _ _ hM hS _ (lv_sub hl [0] rfl)
set_option maxHeartbeats 4000000 in
theorem metX6_look {l : Launch} {G : mG} {b : Nat} {σ : MS} {x : MS × Int32} (h : fX6_look σ = some x) : Met l yX6_look (ws_ yX6_look cX6_look 1 (some .int)) rmX6_look (mP G b σ [.ref b]) (mQi G b x) 0 0 (mB b) := by
  refine m_entry (by decide) rfl (Nat.le_of_ble_eq_true rfl) ?_
  intro p e s m below meth c S hr hlk hK hM hS ls hl
  replace hl : lv_has ls 1 [(0, .ref b)] := hl
  obtain ⟨hx, hb, hml, hown, hts⟩ := id S
  unfold fX6_look at h
  exact wX6_look_0 S hr hlk hK FU σ h _ _ hM hS _ (lv_sub hl [0] rfl)
theorem kX6_look {p : Program} {l : Launch} {e : Env} {R : Room} {s : State} {m : MethodId} {args : Array Value} {below : List Frame} {meth : Method} {c : Code} {H H0 : Heap} {locs : List Loc} {Q : State → Prop} {cc : ByteArray} {nL pc : Nat} {ls : Array Slot} {rest : List Value} {G : mG} {b : Nat} {σ : MS} {x : MS × Int32} (S : CallFix p m c cc nL s args lw_all RX6) (hK : mK G s) (hM : MW G b σ H) (hS : va_S (mB b) H0 H locs) (hf : fX6_look σ = some x) (hR : rmX6_look.frames + 1 ≤ R.frames ∧ 8 + (1 + 11) + rmX6_look.locals ≤ R.locals) (hsize : ls.size = nL) (hr : (rest.map fun v => v.category).sum ≤ 8) (hdg : decode cc pc = .ok (.invokevirtual 254, 3)) (kk : ∀ (H1 : Heap) (locs1 : List Loc), MW G b x.1 H1 → va_S (mB b) H0 H1 locs1 → W p l e R s m args below meth c H1 locs1 0 0 Q (F0 m (pc + 3) ls (.int x.2 :: rest))) : W p l e R s m args below meth c H locs 0 0 Q (F0 m pc ls (.ref b :: rest)) :=
  m_cVi (As := []) S hK hM hS (metX6_look hf) (cwV 0 S.2.2.2.2 (lw_V q2054 q2056 qs65 q179 q2057) rfl rfl rfl (by decide +kernel) hR) ⟨Nat.zero_le _, Nat.zero_le _⟩ rfl hsize rfl hr hdg kk
/-! personMany()I -/
abbrev rmX6_personMany : Room := { frames := 1, cells := 0, slots := 0, locals := 0 }
def fX6_personMany (σ : MS) : Option (Int32) :=
  (aI σ 40 (5 : Int32)).bind fun v1 =>
  some v1
set_option maxHeartbeats 4000000 in
theorem metX6_personMany {l : Launch} {G : mG} {b : Nat} {σ : MS} {x : Int32} (h : fX6_personMany σ = some x) : Met l yX6_personMany (ws_ yX6_personMany cX6_personMany 1 (some .int)) rmX6_personMany (mP G b σ [.ref b]) (mQi G b (σ, x)) 0 0 (mB b) := by
  refine m_entry (by decide) rfl (Nat.le_of_ble_eq_true rfl) ?_
  intro p e s m below meth c S hr hlk hK hM hS ls hl
  replace hl : lv_has ls 1 [(0, .ref b)] := hl
  obtain ⟨hx, hb, hml, hown, hts⟩ := id S
  unfold fX6_personMany at h
  refine lv_aload_n hx hb dX6_personMany_0 rfl (lv_at hl 0 rfl) ?_
  refine m_get S hK hM 40 (Nat.le_of_ble_eq_true rfl) q1772 (v := .ref (ma b 40)) rfl dX6_personMany_1 ?_
  refine lv_iconst (v := (5 : Int32)) hx hb dX6_personMany_4 (by decide) ?_
  replace h := ob h
  obtain ⟨v1, hv1, h⟩ := h
  refine m_iald S hK hM 40 rfl hv1 dX6_personMany_5 ?_
  exact m_iret' S hr hlk rfl hM hS h dX6_personMany_6
theorem kX6_personMany {p : Program} {l : Launch} {e : Env} {R : Room} {s : State} {m : MethodId} {args : Array Value} {below : List Frame} {meth : Method} {c : Code} {H H0 : Heap} {locs : List Loc} {Q : State → Prop} {cc : ByteArray} {nL pc : Nat} {ls : Array Slot} {rest : List Value} {G : mG} {b : Nat} {σ : MS} {x : Int32} (S : CallFix p m c cc nL s args lw_all RX6) (hK : mK G s) (hM : MW G b σ H) (hS : va_S (mB b) H0 H locs) (hf : fX6_personMany σ = some x) (hR : rmX6_personMany.frames + 1 ≤ R.frames ∧ 8 + (1 + 11) + rmX6_personMany.locals ≤ R.locals) (hsize : ls.size = nL) (hr : (rest.map fun v => v.category).sum ≤ 8) (hdg : decode cc pc = .ok (.invokevirtual 408, 3)) (kk : ∀ (H1 : Heap) (locs1 : List Loc), MW G b σ H1 → va_S (mB b) H0 H1 locs1 → W p l e R s m args below meth c H1 locs1 0 0 Q (F0 m (pc + 3) ls (.int x :: rest))) : W p l e R s m args below meth c H locs 0 0 Q (F0 m pc ls (.ref b :: rest)) :=
  m_cVi (As := []) S hK hM hS (metX6_personMany hf) (cwV 0 S.2.2.2.2 (lw_V q2242 q2244 qs108 q179 q2245) rfl rfl rfl (by decide +kernel) hR) ⟨Nat.zero_le _, Nat.zero_le _⟩ rfl hsize rfl hr hdg kk
/-! pressAll(I)V -/
abbrev rmX6_pressAll : Room := { frames := 2, cells := 0, slots := 0, locals := 20 }
def fX6_pressAll_2 : Nat → MS → Int32 → Int32 → Option (MS)
  | 0, _, _, _ => none
  | n + 1, σ, a1, a2 =>
    (fX6_personMany σ).bind fun x1 =>
    if x1 ≤ a2 then
      some σ
    else
    (tI σ 54 ((86 : Int32) + ((2 : Int32) * a2)) ((a1 >>> (a2 &&& 31)) &&& (1 : Int32))).bind fun σ3 =>
    fX6_pressAll_2 n σ3 a1 (a2 + (1 : Int32))
def fX6_pressAll (σ : MS) (a1 : Int32) : Option (MS) :=
  fX6_pressAll_2 FU σ a1 (0 : Int32)
set_option maxHeartbeats 4000000 in
theorem wX6_pressAll_2 {p : Program} {l : Launch} {e : Env} {s : State} {m : MethodId} {args : Array Value} {below : List Frame} {meth : Method} {c : Code} {G : mG} {b : Nat} (S : CallFix p m c cX6_pressAll 3 s args lw_all RX6) (hr : meth.sig.returnType = none) (hlk : meth.locks = false) (hK : mK G s) {x : MS} : ∀ (n : Nat) (σ : MS) (a1 : Int32) (a2 : Int32), fX6_pressAll_2 n σ a1 a2 = some x → mGo p l e rmX6_pressAll s m args below meth c G b (MQ below (mQv G b x) args s 0 0 (mB b)) 3 2 [(0, .ref b), (1, .int a1), (2, .int a2)] [] σ := by
  obtain ⟨hx, hb, hml, hown, hts⟩ := id S
  intro n
  induction n with
  | zero => intro σ a1 a2 h; cases h
  | succ n ih =>
    intro σ a1 a2 h H locs hM hS ls hl
    rw [fX6_pressAll_2] at h
    refine lv_iload_n hx hb dX6_pressAll_2 rfl (lv_at hl 2 rfl) ?_
    refine lv_aload_n hx hb dX6_pressAll_3 rfl (lv_at hl 0 rfl) ?_
    replace h := ob h
    obtain ⟨x1, hx1, h⟩ := h
    refine kX6_personMany S hK hM hS hx1 ⟨Nat.le_of_ble_eq_true rfl, Nat.le_of_ble_eq_true rfl⟩ hl.1 (Nat.le_of_ble_eq_true rfl) dX6_pressAll_4 (fun H locs hM hS => ?_)
    refine lv_icmp_ge (tgt := 32) hx hb dX6_pressAll_7 (by decide) (fun c2 => ?_) (fun c2 => ?_)
    · replace h := it c2 h
      exact m_vret S hr hlk hM hS h dX6_pressAll_32
    replace h := ie c2 h
    refine lv_aload_n hx hb dX6_pressAll_10 rfl (lv_at hl 0 rfl) ?_
    refine m_get S hK hM 54 (Nat.le_of_ble_eq_true rfl) q1786 (v := .ref (ma b 54)) rfl dX6_pressAll_11 ?_
    refine lv_bipush (v := (86 : Int32)) hx hb dX6_pressAll_14 (by decide) ?_
    refine lv_iconst (v := (2 : Int32)) hx hb dX6_pressAll_16 (by decide) ?_
    refine lv_iload_n hx hb dX6_pressAll_17 rfl (lv_at hl 2 rfl) ?_
    refine lv_imul hx hb dX6_pressAll_18 ?_
    refine lv_iadd hx hb dX6_pressAll_19 ?_
    refine lv_iload_n hx hb dX6_pressAll_20 rfl (lv_at hl 1 rfl) ?_
    refine lv_iload_n hx hb dX6_pressAll_21 rfl (lv_at hl 2 rfl) ?_
    refine lv_ishr hx hb dX6_pressAll_22 ?_
    refine lv_iconst (v := (1 : Int32)) hx hb dX6_pressAll_23 (by decide) ?_
    refine lv_iand hx hb dX6_pressAll_24 ?_
    replace h := ob h
    obtain ⟨σ3, hσ3, h⟩ := h
    refine m_iast S hK hM hS 54 rfl hσ3 dX6_pressAll_25 (fun H locs hM hS => ?_)
    refine lv_iinc (v := (a2 + (1 : Int32))) (lv' := [(2, .int (a2 + (1 : Int32))), (0, .ref b), (1, .int a1)]) hx hb dX6_pressAll_26 hl (k := 2) rfl rfl (by decide) rfl (fun ls hl => ?_)
    refine lv_goto (tgt := 2) hx hb dX6_pressAll_29 (by decide) ?_
    exact ih σ3 a1 (a2 + (1 : Int32)) h _ _ hM hS _ (lv_sub hl [1, 2, 0] rfl)
set_option maxHeartbeats 4000000 in
theorem metX6_pressAll {l : Launch} {G : mG} {b : Nat} {σ : MS} {a1 : Int32} {x : MS} (h : fX6_pressAll σ a1 = some x) : Met l yX6_pressAll (ws_ yX6_pressAll cX6_pressAll 3 (none)) rmX6_pressAll (mP G b σ [.ref b, .int a1]) (mQv G b x) 0 0 (mB b) := by
  refine m_entry (by decide) rfl (Nat.le_of_ble_eq_true rfl) ?_
  intro p e s m below meth c S hr hlk hK hM hS ls hl
  replace hl : lv_has ls 3 [(0, .ref b), (1, .int a1)] := hl
  obtain ⟨hx, hb, hml, hown, hts⟩ := id S
  unfold fX6_pressAll at h
  refine lv_iconst (v := (0 : Int32)) hx hb dX6_pressAll_0 (by decide) ?_
  refine lv_istore_n (lv' := [(2, .int (0 : Int32)), (0, .ref b), (1, .int a1)]) hx hb dX6_pressAll_1 rfl hl (by decide) rfl (fun ls hl => ?_)
  exact wX6_pressAll_2 S hr hlk hK FU σ a1 (0 : Int32) h _ _ hM hS _ (lv_sub hl [1, 2, 0] rfl)
theorem kX6_pressAll {p : Program} {l : Launch} {e : Env} {R : Room} {s : State} {m : MethodId} {args : Array Value} {below : List Frame} {meth : Method} {c : Code} {H H0 : Heap} {locs : List Loc} {Q : State → Prop} {cc : ByteArray} {nL pc : Nat} {ls : Array Slot} {rest : List Value} {G : mG} {b : Nat} {σ : MS} {a1 : Int32} {x : MS} (S : CallFix p m c cc nL s args lw_all RX6) (hK : mK G s) (hM : MW G b σ H) (hS : va_S (mB b) H0 H locs) (hf : fX6_pressAll σ a1 = some x) (hR : rmX6_pressAll.frames + 1 ≤ R.frames ∧ 8 + (3 + 11) + rmX6_pressAll.locals ≤ R.locals) (hsize : ls.size = nL) (hr : (rest.map fun v => v.category).sum ≤ 8) (hdg : decode cc pc = .ok (.invokevirtual 393, 3)) (kk : ∀ (H1 : Heap) (locs1 : List Loc), MW G b x H1 → va_S (mB b) H0 H1 locs1 → W p l e R s m args below meth c H1 locs1 0 0 Q (F0 m (pc + 3) ls (rest))) : W p l e R s m args below meth c H locs 0 0 Q (F0 m pc ls (.int a1 :: .ref b :: rest)) :=
  m_cVv (As := [.int a1]) S hK hM hS (metX6_pressAll hf) (cwV 1 S.2.2.2.2 (lw_V q2238 q2240 qs107 q179 q2241) rfl rfl rfl (by decide +kernel) hR) ⟨Nat.zero_le _, Nat.zero_le _⟩ rfl hsize rfl hr hdg kk
/-! stands()V -/
abbrev rmX6_stands : Room := { frames := 3, cells := 0, slots := 0, locals := 42 }
def fX6_stands_261 : Nat → MS → Int32 → Option (MS)
  | 0, _, _ => none
  | n + 1, σ, a1 =>
    if (257 : Int32) ≤ a1 then
      (fX6_pressAll σ (σ.1 46)).bind fun x2 =>
      some (sI (sI x2 68 (0 : Int32)) 65 (0 : Int32))
    else
    (tI σ 54 a1 (0 : Int32)).bind fun σ3 =>
    fX6_stands_261 n σ3 (a1 + (1 : Int32))
def fX6_stands_229 : Nat → MS → Int32 → Option (MS)
  | 0, _, _ => none
  | n + 1, σ, a1 =>
    if (σ.1 51) ≤ a1 then
      fX6_stands_261 FU σ (0 : Int32)
    else
    (aI σ 50 a1).bind fun v2 =>
    (tI σ 50 ((1600 : Int32) + a1) v2).bind fun σ3 =>
    fX6_stands_229 n σ3 (a1 + (1 : Int32))
def fX6_stands_202 : Nat → MS → Int32 → Option (MS)
  | 0, _, _ => none
  | n + 1, σ, a1 =>
    if (4 : Int32) ≤ a1 then
      fX6_stands_229 FU σ (0 : Int32)
    else
    (aI σ 47 a1).bind fun v2 =>
    (tI σ 47 ((4 : Int32) + a1) v2).bind fun σ3 =>
    fX6_stands_202 n σ3 (a1 + (1 : Int32))
def fX6_stands_173 : Nat → MS → Int32 → Option (MS)
  | 0, _, _ => none
  | n + 1, σ, a1 =>
    if (30 : Int32) ≤ a1 then
      fX6_stands_202 FU σ (0 : Int32)
    else
    (aI σ 45 a1).bind fun v2 =>
    (tI σ 45 ((30 : Int32) + a1) v2).bind fun σ3 =>
    fX6_stands_173 n σ3 (a1 + (1 : Int32))
def fX6_stands_144 : Nat → MS → Int32 → Option (MS)
  | 0, _, _ => none
  | n + 1, σ, a1 =>
    if (10 : Int32) ≤ a1 then
      fX6_stands_173 FU σ (0 : Int32)
    else
    (aI σ 44 a1).bind fun v2 =>
    (tI σ 44 ((10 : Int32) + a1) v2).bind fun σ3 =>
    fX6_stands_144 n σ3 (a1 + (1 : Int32))
def fX6_stands_115 : Nat → MS → Int32 → Option (MS)
  | 0, _, _ => none
  | n + 1, σ, a1 =>
    if (48 : Int32) ≤ a1 then
      fX6_stands_144 FU σ (0 : Int32)
    else
    (aI σ 43 a1).bind fun v2 =>
    (tI σ 43 ((48 : Int32) + a1) v2).bind fun σ3 =>
    fX6_stands_115 n σ3 (a1 + (1 : Int32))
def fX6_stands_86 : Nat → MS → Int32 → Option (MS)
  | 0, _, _ => none
  | n + 1, σ, a1 =>
    if (8 : Int32) ≤ a1 then
      fX6_stands_115 FU σ (0 : Int32)
    else
    (aI σ 42 a1).bind fun v2 =>
    (tI σ 42 ((8 : Int32) + a1) v2).bind fun σ3 =>
    fX6_stands_86 n σ3 (a1 + (1 : Int32))
def fX6_stands_57 : Nat → MS → Int32 → Option (MS)
  | 0, _, _ => none
  | n + 1, σ, a1 =>
    if (24 : Int32) ≤ a1 then
      fX6_stands_86 FU σ (0 : Int32)
    else
    (aL σ 41 a1).bind fun v2 =>
    (tL σ 41 ((24 : Int32) + a1) v2).bind fun σ3 =>
    fX6_stands_57 n σ3 (a1 + (1 : Int32))
def fX6_stands_2 : Nat → MS → Int32 → Option (MS)
  | 0, _, _ => none
  | n + 1, σ, a1 =>
    if (3 : Int32) ≤ a1 then
      fX6_stands_57 FU σ (0 : Int32)
    else
    (aI σ 40 a1).bind fun v2 =>
    (tI σ 40 ((3 : Int32) + a1) v2).bind fun σ3 =>
    (aI σ3 48 a1).bind fun v4 =>
    (tI σ3 48 ((3 : Int32) + a1) v4).bind fun σ5 =>
    (aI σ5 49 a1).bind fun v6 =>
    (tI σ5 49 ((3 : Int32) + a1) v6).bind fun σ7 =>
    fX6_stands_2 n σ7 (a1 + (1 : Int32))
def fX6_stands (σ : MS) : Option (MS) :=
  fX6_stands_2 FU σ (0 : Int32)
set_option maxHeartbeats 4000000 in
theorem wX6_stands_261 {p : Program} {l : Launch} {e : Env} {s : State} {m : MethodId} {args : Array Value} {below : List Frame} {meth : Method} {c : Code} {G : mG} {b : Nat} (S : CallFix p m c cX6_stands 2 s args lw_all RX6) (hr : meth.sig.returnType = none) (hlk : meth.locks = false) (hK : mK G s) {x : MS} : ∀ (n : Nat) (σ : MS) (a1 : Int32), fX6_stands_261 n σ a1 = some x → mGo p l e rmX6_stands s m args below meth c G b (MQ below (mQv G b x) args s 0 0 (mB b)) 2 261 [(0, .ref b), (1, .int a1)] [] σ := by
  obtain ⟨hx, hb, hml, hown, hts⟩ := id S
  intro n
  induction n with
  | zero => intro σ a1 h; cases h
  | succ n ih =>
    intro σ a1 h H locs hM hS ls hl
    rw [fX6_stands_261] at h
    refine lv_iload_n hx hb dX6_stands_261 rfl (lv_at hl 1 rfl) ?_
    refine lv_sipush (v := (257 : Int32)) hx hb dX6_stands_262 (by decide) ?_
    refine lv_icmp_ge (tgt := 281) hx hb dX6_stands_265 (by decide) (fun c1 => ?_) (fun c1 => ?_)
    rotate_left 1
    · replace h := ie c1 h
      refine lv_aload_n hx hb dX6_stands_268 rfl (lv_at hl 0 rfl) ?_
      refine m_get S hK hM 54 (Nat.le_of_ble_eq_true rfl) q1786 (v := .ref (ma b 54)) rfl dX6_stands_269 ?_
      refine lv_iload_n hx hb dX6_stands_272 rfl (lv_at hl 1 rfl) ?_
      refine lv_iconst (v := (0 : Int32)) hx hb dX6_stands_273 (by decide) ?_
      replace h := ob h
      obtain ⟨σ3, hσ3, h⟩ := h
      refine m_iast S hK hM hS 54 rfl hσ3 dX6_stands_274 (fun H locs hM hS => ?_)
      refine lv_iinc (v := (a1 + (1 : Int32))) (lv' := [(1, .int (a1 + (1 : Int32))), (0, .ref b)]) hx hb dX6_stands_275 hl (k := 1) rfl rfl (by decide) rfl (fun ls hl => ?_)
      refine lv_goto (tgt := 261) hx hb dX6_stands_278 (by decide) ?_
      exact ih σ3 (a1 + (1 : Int32)) h _ _ hM hS _ (lv_sub hl [1, 0] rfl)
    replace h := it c1 h
    refine lv_aload_n hx hb dX6_stands_281 rfl (lv_at hl 0 rfl) ?_
    refine lv_aload_n hx hb dX6_stands_282 rfl (lv_at hl 0 rfl) ?_
    refine m_get S hK hM 46 (Nat.le_of_ble_eq_true rfl) q1778 (v := .int (σ.1 46)) rfl dX6_stands_283 ?_
    replace h := ob h
    obtain ⟨x2, hx2, h⟩ := h
    refine kX6_pressAll S hK hM hS hx2 ⟨Nat.le_of_ble_eq_true rfl, Nat.le_of_ble_eq_true rfl⟩ hl.1 (Nat.le_of_ble_eq_true rfl) dX6_stands_286 (fun H locs hM hS => ?_)
    refine lv_aload_n hx hb dX6_stands_289 rfl (lv_at hl 0 rfl) ?_
    refine lv_iconst (v := (0 : Int32)) hx hb dX6_stands_290 (by decide) ?_
    refine m_putI S hK hM hS 68 (Nat.le_of_ble_eq_true rfl) rfl q1800 rfl (ty := .int) rfl rfl rfl dX6_stands_291 (fun H locs hM hS => ?_)
    refine lv_aload_n hx hb dX6_stands_294 rfl (lv_at hl 0 rfl) ?_
    refine lv_iconst (v := (0 : Int32)) hx hb dX6_stands_295 (by decide) ?_
    refine m_putI S hK hM hS 65 (Nat.le_of_ble_eq_true rfl) rfl q1797 rfl (ty := .int) rfl rfl rfl dX6_stands_296 (fun H locs hM hS => ?_)
    exact m_vret S hr hlk hM hS h dX6_stands_299
set_option maxHeartbeats 4000000 in
theorem wX6_stands_229 {p : Program} {l : Launch} {e : Env} {s : State} {m : MethodId} {args : Array Value} {below : List Frame} {meth : Method} {c : Code} {G : mG} {b : Nat} (S : CallFix p m c cX6_stands 2 s args lw_all RX6) (hr : meth.sig.returnType = none) (hlk : meth.locks = false) (hK : mK G s) {x : MS} : ∀ (n : Nat) (σ : MS) (a1 : Int32), fX6_stands_229 n σ a1 = some x → mGo p l e rmX6_stands s m args below meth c G b (MQ below (mQv G b x) args s 0 0 (mB b)) 2 229 [(0, .ref b), (1, .int a1)] [] σ := by
  obtain ⟨hx, hb, hml, hown, hts⟩ := id S
  intro n
  induction n with
  | zero => intro σ a1 h; cases h
  | succ n ih =>
    intro σ a1 h H locs hM hS ls hl
    rw [fX6_stands_229] at h
    refine lv_iload_n hx hb dX6_stands_229 rfl (lv_at hl 1 rfl) ?_
    refine lv_aload_n hx hb dX6_stands_230 rfl (lv_at hl 0 rfl) ?_
    refine m_get S hK hM 51 (Nat.le_of_ble_eq_true rfl) q1783 (v := .int (σ.1 51)) rfl dX6_stands_231 ?_
    refine lv_icmp_ge (tgt := 259) hx hb dX6_stands_234 (by decide) (fun c1 => ?_) (fun c1 => ?_)
    · replace h := it c1 h
      refine lv_iconst (v := (0 : Int32)) hx hb dX6_stands_259 (by decide) ?_
      refine lv_istore_n (lv' := [(1, .int (0 : Int32)), (0, .ref b)]) hx hb dX6_stands_260 rfl hl (by decide) rfl (fun ls hl => ?_)
      exact wX6_stands_261 S hr hlk hK FU σ (0 : Int32) h _ _ hM hS _ (lv_sub hl [1, 0] rfl)
    replace h := ie c1 h
    refine lv_aload_n hx hb dX6_stands_237 rfl (lv_at hl 0 rfl) ?_
    refine m_get S hK hM 50 (Nat.le_of_ble_eq_true rfl) q1782 (v := .ref (ma b 50)) rfl dX6_stands_238 ?_
    refine lv_sipush (v := (1600 : Int32)) hx hb dX6_stands_241 (by decide) ?_
    refine lv_iload_n hx hb dX6_stands_244 rfl (lv_at hl 1 rfl) ?_
    refine lv_iadd hx hb dX6_stands_245 ?_
    refine lv_aload_n hx hb dX6_stands_246 rfl (lv_at hl 0 rfl) ?_
    refine m_get S hK hM 50 (Nat.le_of_ble_eq_true rfl) q1782 (v := .ref (ma b 50)) rfl dX6_stands_247 ?_
    refine lv_iload_n hx hb dX6_stands_250 rfl (lv_at hl 1 rfl) ?_
    replace h := ob h
    obtain ⟨v2, hv2, h⟩ := h
    refine m_iald S hK hM 50 rfl hv2 dX6_stands_251 ?_
    replace h := ob h
    obtain ⟨σ3, hσ3, h⟩ := h
    refine m_iast S hK hM hS 50 rfl hσ3 dX6_stands_252 (fun H locs hM hS => ?_)
    refine lv_iinc (v := (a1 + (1 : Int32))) (lv' := [(1, .int (a1 + (1 : Int32))), (0, .ref b)]) hx hb dX6_stands_253 hl (k := 1) rfl rfl (by decide) rfl (fun ls hl => ?_)
    refine lv_goto (tgt := 229) hx hb dX6_stands_256 (by decide) ?_
    exact ih σ3 (a1 + (1 : Int32)) h _ _ hM hS _ (lv_sub hl [1, 0] rfl)
set_option maxHeartbeats 4000000 in
theorem wX6_stands_202 {p : Program} {l : Launch} {e : Env} {s : State} {m : MethodId} {args : Array Value} {below : List Frame} {meth : Method} {c : Code} {G : mG} {b : Nat} (S : CallFix p m c cX6_stands 2 s args lw_all RX6) (hr : meth.sig.returnType = none) (hlk : meth.locks = false) (hK : mK G s) {x : MS} : ∀ (n : Nat) (σ : MS) (a1 : Int32), fX6_stands_202 n σ a1 = some x → mGo p l e rmX6_stands s m args below meth c G b (MQ below (mQv G b x) args s 0 0 (mB b)) 2 202 [(0, .ref b), (1, .int a1)] [] σ := by
  obtain ⟨hx, hb, hml, hown, hts⟩ := id S
  intro n
  induction n with
  | zero => intro σ a1 h; cases h
  | succ n ih =>
    intro σ a1 h H locs hM hS ls hl
    rw [fX6_stands_202] at h
    refine lv_iload_n hx hb dX6_stands_202 rfl (lv_at hl 1 rfl) ?_
    refine lv_iconst (v := (4 : Int32)) hx hb dX6_stands_203 (by decide) ?_
    refine lv_icmp_ge (tgt := 227) hx hb dX6_stands_204 (by decide) (fun c1 => ?_) (fun c1 => ?_)
    · replace h := it c1 h
      refine lv_iconst (v := (0 : Int32)) hx hb dX6_stands_227 (by decide) ?_
      refine lv_istore_n (lv' := [(1, .int (0 : Int32)), (0, .ref b)]) hx hb dX6_stands_228 rfl hl (by decide) rfl (fun ls hl => ?_)
      exact wX6_stands_229 S hr hlk hK FU σ (0 : Int32) h _ _ hM hS _ (lv_sub hl [1, 0] rfl)
    replace h := ie c1 h
    refine lv_aload_n hx hb dX6_stands_207 rfl (lv_at hl 0 rfl) ?_
    refine m_get S hK hM 47 (Nat.le_of_ble_eq_true rfl) q1779 (v := .ref (ma b 47)) rfl dX6_stands_208 ?_
    refine lv_iconst (v := (4 : Int32)) hx hb dX6_stands_211 (by decide) ?_
    refine lv_iload_n hx hb dX6_stands_212 rfl (lv_at hl 1 rfl) ?_
    refine lv_iadd hx hb dX6_stands_213 ?_
    refine lv_aload_n hx hb dX6_stands_214 rfl (lv_at hl 0 rfl) ?_
    refine m_get S hK hM 47 (Nat.le_of_ble_eq_true rfl) q1779 (v := .ref (ma b 47)) rfl dX6_stands_215 ?_
    refine lv_iload_n hx hb dX6_stands_218 rfl (lv_at hl 1 rfl) ?_
    replace h := ob h
    obtain ⟨v2, hv2, h⟩ := h
    refine m_iald S hK hM 47 rfl hv2 dX6_stands_219 ?_
    replace h := ob h
    obtain ⟨σ3, hσ3, h⟩ := h
    refine m_iast S hK hM hS 47 rfl hσ3 dX6_stands_220 (fun H locs hM hS => ?_)
    refine lv_iinc (v := (a1 + (1 : Int32))) (lv' := [(1, .int (a1 + (1 : Int32))), (0, .ref b)]) hx hb dX6_stands_221 hl (k := 1) rfl rfl (by decide) rfl (fun ls hl => ?_)
    refine lv_goto (tgt := 202) hx hb dX6_stands_224 (by decide) ?_
    exact ih σ3 (a1 + (1 : Int32)) h _ _ hM hS _ (lv_sub hl [1, 0] rfl)
set_option maxHeartbeats 4000000 in
theorem wX6_stands_173 {p : Program} {l : Launch} {e : Env} {s : State} {m : MethodId} {args : Array Value} {below : List Frame} {meth : Method} {c : Code} {G : mG} {b : Nat} (S : CallFix p m c cX6_stands 2 s args lw_all RX6) (hr : meth.sig.returnType = none) (hlk : meth.locks = false) (hK : mK G s) {x : MS} : ∀ (n : Nat) (σ : MS) (a1 : Int32), fX6_stands_173 n σ a1 = some x → mGo p l e rmX6_stands s m args below meth c G b (MQ below (mQv G b x) args s 0 0 (mB b)) 2 173 [(0, .ref b), (1, .int a1)] [] σ := by
  obtain ⟨hx, hb, hml, hown, hts⟩ := id S
  intro n
  induction n with
  | zero => intro σ a1 h; cases h
  | succ n ih =>
    intro σ a1 h H locs hM hS ls hl
    rw [fX6_stands_173] at h
    refine lv_iload_n hx hb dX6_stands_173 rfl (lv_at hl 1 rfl) ?_
    refine lv_bipush (v := (30 : Int32)) hx hb dX6_stands_174 (by decide) ?_
    refine lv_icmp_ge (tgt := 200) hx hb dX6_stands_176 (by decide) (fun c1 => ?_) (fun c1 => ?_)
    · replace h := it c1 h
      refine lv_iconst (v := (0 : Int32)) hx hb dX6_stands_200 (by decide) ?_
      refine lv_istore_n (lv' := [(1, .int (0 : Int32)), (0, .ref b)]) hx hb dX6_stands_201 rfl hl (by decide) rfl (fun ls hl => ?_)
      exact wX6_stands_202 S hr hlk hK FU σ (0 : Int32) h _ _ hM hS _ (lv_sub hl [1, 0] rfl)
    replace h := ie c1 h
    refine lv_aload_n hx hb dX6_stands_179 rfl (lv_at hl 0 rfl) ?_
    refine m_get S hK hM 45 (Nat.le_of_ble_eq_true rfl) q1777 (v := .ref (ma b 45)) rfl dX6_stands_180 ?_
    refine lv_bipush (v := (30 : Int32)) hx hb dX6_stands_183 (by decide) ?_
    refine lv_iload_n hx hb dX6_stands_185 rfl (lv_at hl 1 rfl) ?_
    refine lv_iadd hx hb dX6_stands_186 ?_
    refine lv_aload_n hx hb dX6_stands_187 rfl (lv_at hl 0 rfl) ?_
    refine m_get S hK hM 45 (Nat.le_of_ble_eq_true rfl) q1777 (v := .ref (ma b 45)) rfl dX6_stands_188 ?_
    refine lv_iload_n hx hb dX6_stands_191 rfl (lv_at hl 1 rfl) ?_
    replace h := ob h
    obtain ⟨v2, hv2, h⟩ := h
    refine m_iald S hK hM 45 rfl hv2 dX6_stands_192 ?_
    replace h := ob h
    obtain ⟨σ3, hσ3, h⟩ := h
    refine m_iast S hK hM hS 45 rfl hσ3 dX6_stands_193 (fun H locs hM hS => ?_)
    refine lv_iinc (v := (a1 + (1 : Int32))) (lv' := [(1, .int (a1 + (1 : Int32))), (0, .ref b)]) hx hb dX6_stands_194 hl (k := 1) rfl rfl (by decide) rfl (fun ls hl => ?_)
    refine lv_goto (tgt := 173) hx hb dX6_stands_197 (by decide) ?_
    exact ih σ3 (a1 + (1 : Int32)) h _ _ hM hS _ (lv_sub hl [1, 0] rfl)
set_option maxHeartbeats 4000000 in
theorem wX6_stands_144 {p : Program} {l : Launch} {e : Env} {s : State} {m : MethodId} {args : Array Value} {below : List Frame} {meth : Method} {c : Code} {G : mG} {b : Nat} (S : CallFix p m c cX6_stands 2 s args lw_all RX6) (hr : meth.sig.returnType = none) (hlk : meth.locks = false) (hK : mK G s) {x : MS} : ∀ (n : Nat) (σ : MS) (a1 : Int32), fX6_stands_144 n σ a1 = some x → mGo p l e rmX6_stands s m args below meth c G b (MQ below (mQv G b x) args s 0 0 (mB b)) 2 144 [(0, .ref b), (1, .int a1)] [] σ := by
  obtain ⟨hx, hb, hml, hown, hts⟩ := id S
  intro n
  induction n with
  | zero => intro σ a1 h; cases h
  | succ n ih =>
    intro σ a1 h H locs hM hS ls hl
    rw [fX6_stands_144] at h
    refine lv_iload_n hx hb dX6_stands_144 rfl (lv_at hl 1 rfl) ?_
    refine lv_bipush (v := (10 : Int32)) hx hb dX6_stands_145 (by decide) ?_
    refine lv_icmp_ge (tgt := 171) hx hb dX6_stands_147 (by decide) (fun c1 => ?_) (fun c1 => ?_)
    · replace h := it c1 h
      refine lv_iconst (v := (0 : Int32)) hx hb dX6_stands_171 (by decide) ?_
      refine lv_istore_n (lv' := [(1, .int (0 : Int32)), (0, .ref b)]) hx hb dX6_stands_172 rfl hl (by decide) rfl (fun ls hl => ?_)
      exact wX6_stands_173 S hr hlk hK FU σ (0 : Int32) h _ _ hM hS _ (lv_sub hl [1, 0] rfl)
    replace h := ie c1 h
    refine lv_aload_n hx hb dX6_stands_150 rfl (lv_at hl 0 rfl) ?_
    refine m_get S hK hM 44 (Nat.le_of_ble_eq_true rfl) q1776 (v := .ref (ma b 44)) rfl dX6_stands_151 ?_
    refine lv_bipush (v := (10 : Int32)) hx hb dX6_stands_154 (by decide) ?_
    refine lv_iload_n hx hb dX6_stands_156 rfl (lv_at hl 1 rfl) ?_
    refine lv_iadd hx hb dX6_stands_157 ?_
    refine lv_aload_n hx hb dX6_stands_158 rfl (lv_at hl 0 rfl) ?_
    refine m_get S hK hM 44 (Nat.le_of_ble_eq_true rfl) q1776 (v := .ref (ma b 44)) rfl dX6_stands_159 ?_
    refine lv_iload_n hx hb dX6_stands_162 rfl (lv_at hl 1 rfl) ?_
    replace h := ob h
    obtain ⟨v2, hv2, h⟩ := h
    refine m_iald S hK hM 44 rfl hv2 dX6_stands_163 ?_
    replace h := ob h
    obtain ⟨σ3, hσ3, h⟩ := h
    refine m_iast S hK hM hS 44 rfl hσ3 dX6_stands_164 (fun H locs hM hS => ?_)
    refine lv_iinc (v := (a1 + (1 : Int32))) (lv' := [(1, .int (a1 + (1 : Int32))), (0, .ref b)]) hx hb dX6_stands_165 hl (k := 1) rfl rfl (by decide) rfl (fun ls hl => ?_)
    refine lv_goto (tgt := 144) hx hb dX6_stands_168 (by decide) ?_
    exact ih σ3 (a1 + (1 : Int32)) h _ _ hM hS _ (lv_sub hl [1, 0] rfl)
set_option maxHeartbeats 4000000 in
theorem wX6_stands_115 {p : Program} {l : Launch} {e : Env} {s : State} {m : MethodId} {args : Array Value} {below : List Frame} {meth : Method} {c : Code} {G : mG} {b : Nat} (S : CallFix p m c cX6_stands 2 s args lw_all RX6) (hr : meth.sig.returnType = none) (hlk : meth.locks = false) (hK : mK G s) {x : MS} : ∀ (n : Nat) (σ : MS) (a1 : Int32), fX6_stands_115 n σ a1 = some x → mGo p l e rmX6_stands s m args below meth c G b (MQ below (mQv G b x) args s 0 0 (mB b)) 2 115 [(0, .ref b), (1, .int a1)] [] σ := by
  obtain ⟨hx, hb, hml, hown, hts⟩ := id S
  intro n
  induction n with
  | zero => intro σ a1 h; cases h
  | succ n ih =>
    intro σ a1 h H locs hM hS ls hl
    rw [fX6_stands_115] at h
    refine lv_iload_n hx hb dX6_stands_115 rfl (lv_at hl 1 rfl) ?_
    refine lv_bipush (v := (48 : Int32)) hx hb dX6_stands_116 (by decide) ?_
    refine lv_icmp_ge (tgt := 142) hx hb dX6_stands_118 (by decide) (fun c1 => ?_) (fun c1 => ?_)
    · replace h := it c1 h
      refine lv_iconst (v := (0 : Int32)) hx hb dX6_stands_142 (by decide) ?_
      refine lv_istore_n (lv' := [(1, .int (0 : Int32)), (0, .ref b)]) hx hb dX6_stands_143 rfl hl (by decide) rfl (fun ls hl => ?_)
      exact wX6_stands_144 S hr hlk hK FU σ (0 : Int32) h _ _ hM hS _ (lv_sub hl [1, 0] rfl)
    replace h := ie c1 h
    refine lv_aload_n hx hb dX6_stands_121 rfl (lv_at hl 0 rfl) ?_
    refine m_get S hK hM 43 (Nat.le_of_ble_eq_true rfl) q1775 (v := .ref (ma b 43)) rfl dX6_stands_122 ?_
    refine lv_bipush (v := (48 : Int32)) hx hb dX6_stands_125 (by decide) ?_
    refine lv_iload_n hx hb dX6_stands_127 rfl (lv_at hl 1 rfl) ?_
    refine lv_iadd hx hb dX6_stands_128 ?_
    refine lv_aload_n hx hb dX6_stands_129 rfl (lv_at hl 0 rfl) ?_
    refine m_get S hK hM 43 (Nat.le_of_ble_eq_true rfl) q1775 (v := .ref (ma b 43)) rfl dX6_stands_130 ?_
    refine lv_iload_n hx hb dX6_stands_133 rfl (lv_at hl 1 rfl) ?_
    replace h := ob h
    obtain ⟨v2, hv2, h⟩ := h
    refine m_iald S hK hM 43 rfl hv2 dX6_stands_134 ?_
    replace h := ob h
    obtain ⟨σ3, hσ3, h⟩ := h
    refine m_iast S hK hM hS 43 rfl hσ3 dX6_stands_135 (fun H locs hM hS => ?_)
    refine lv_iinc (v := (a1 + (1 : Int32))) (lv' := [(1, .int (a1 + (1 : Int32))), (0, .ref b)]) hx hb dX6_stands_136 hl (k := 1) rfl rfl (by decide) rfl (fun ls hl => ?_)
    refine lv_goto (tgt := 115) hx hb dX6_stands_139 (by decide) ?_
    exact ih σ3 (a1 + (1 : Int32)) h _ _ hM hS _ (lv_sub hl [1, 0] rfl)
set_option maxHeartbeats 4000000 in
theorem wX6_stands_86 {p : Program} {l : Launch} {e : Env} {s : State} {m : MethodId} {args : Array Value} {below : List Frame} {meth : Method} {c : Code} {G : mG} {b : Nat} (S : CallFix p m c cX6_stands 2 s args lw_all RX6) (hr : meth.sig.returnType = none) (hlk : meth.locks = false) (hK : mK G s) {x : MS} : ∀ (n : Nat) (σ : MS) (a1 : Int32), fX6_stands_86 n σ a1 = some x → mGo p l e rmX6_stands s m args below meth c G b (MQ below (mQv G b x) args s 0 0 (mB b)) 2 86 [(0, .ref b), (1, .int a1)] [] σ := by
  obtain ⟨hx, hb, hml, hown, hts⟩ := id S
  intro n
  induction n with
  | zero => intro σ a1 h; cases h
  | succ n ih =>
    intro σ a1 h H locs hM hS ls hl
    rw [fX6_stands_86] at h
    refine lv_iload_n hx hb dX6_stands_86 rfl (lv_at hl 1 rfl) ?_
    refine lv_bipush (v := (8 : Int32)) hx hb dX6_stands_87 (by decide) ?_
    refine lv_icmp_ge (tgt := 113) hx hb dX6_stands_89 (by decide) (fun c1 => ?_) (fun c1 => ?_)
    · replace h := it c1 h
      refine lv_iconst (v := (0 : Int32)) hx hb dX6_stands_113 (by decide) ?_
      refine lv_istore_n (lv' := [(1, .int (0 : Int32)), (0, .ref b)]) hx hb dX6_stands_114 rfl hl (by decide) rfl (fun ls hl => ?_)
      exact wX6_stands_115 S hr hlk hK FU σ (0 : Int32) h _ _ hM hS _ (lv_sub hl [1, 0] rfl)
    replace h := ie c1 h
    refine lv_aload_n hx hb dX6_stands_92 rfl (lv_at hl 0 rfl) ?_
    refine m_get S hK hM 42 (Nat.le_of_ble_eq_true rfl) q1774 (v := .ref (ma b 42)) rfl dX6_stands_93 ?_
    refine lv_bipush (v := (8 : Int32)) hx hb dX6_stands_96 (by decide) ?_
    refine lv_iload_n hx hb dX6_stands_98 rfl (lv_at hl 1 rfl) ?_
    refine lv_iadd hx hb dX6_stands_99 ?_
    refine lv_aload_n hx hb dX6_stands_100 rfl (lv_at hl 0 rfl) ?_
    refine m_get S hK hM 42 (Nat.le_of_ble_eq_true rfl) q1774 (v := .ref (ma b 42)) rfl dX6_stands_101 ?_
    refine lv_iload_n hx hb dX6_stands_104 rfl (lv_at hl 1 rfl) ?_
    replace h := ob h
    obtain ⟨v2, hv2, h⟩ := h
    refine m_iald S hK hM 42 rfl hv2 dX6_stands_105 ?_
    replace h := ob h
    obtain ⟨σ3, hσ3, h⟩ := h
    refine m_iast S hK hM hS 42 rfl hσ3 dX6_stands_106 (fun H locs hM hS => ?_)
    refine lv_iinc (v := (a1 + (1 : Int32))) (lv' := [(1, .int (a1 + (1 : Int32))), (0, .ref b)]) hx hb dX6_stands_107 hl (k := 1) rfl rfl (by decide) rfl (fun ls hl => ?_)
    refine lv_goto (tgt := 86) hx hb dX6_stands_110 (by decide) ?_
    exact ih σ3 (a1 + (1 : Int32)) h _ _ hM hS _ (lv_sub hl [1, 0] rfl)
set_option maxHeartbeats 4000000 in
theorem wX6_stands_57 {p : Program} {l : Launch} {e : Env} {s : State} {m : MethodId} {args : Array Value} {below : List Frame} {meth : Method} {c : Code} {G : mG} {b : Nat} (S : CallFix p m c cX6_stands 2 s args lw_all RX6) (hr : meth.sig.returnType = none) (hlk : meth.locks = false) (hK : mK G s) {x : MS} : ∀ (n : Nat) (σ : MS) (a1 : Int32), fX6_stands_57 n σ a1 = some x → mGo p l e rmX6_stands s m args below meth c G b (MQ below (mQv G b x) args s 0 0 (mB b)) 2 57 [(0, .ref b), (1, .int a1)] [] σ := by
  obtain ⟨hx, hb, hml, hown, hts⟩ := id S
  intro n
  induction n with
  | zero => intro σ a1 h; cases h
  | succ n ih =>
    intro σ a1 h H locs hM hS ls hl
    rw [fX6_stands_57] at h
    refine lv_iload_n hx hb dX6_stands_57 rfl (lv_at hl 1 rfl) ?_
    refine lv_bipush (v := (24 : Int32)) hx hb dX6_stands_58 (by decide) ?_
    refine lv_icmp_ge (tgt := 84) hx hb dX6_stands_60 (by decide) (fun c1 => ?_) (fun c1 => ?_)
    · replace h := it c1 h
      refine lv_iconst (v := (0 : Int32)) hx hb dX6_stands_84 (by decide) ?_
      refine lv_istore_n (lv' := [(1, .int (0 : Int32)), (0, .ref b)]) hx hb dX6_stands_85 rfl hl (by decide) rfl (fun ls hl => ?_)
      exact wX6_stands_86 S hr hlk hK FU σ (0 : Int32) h _ _ hM hS _ (lv_sub hl [1, 0] rfl)
    replace h := ie c1 h
    refine lv_aload_n hx hb dX6_stands_63 rfl (lv_at hl 0 rfl) ?_
    refine m_get S hK hM 41 (Nat.le_of_ble_eq_true rfl) q1773 (v := .ref (ma b 41)) rfl dX6_stands_64 ?_
    refine lv_bipush (v := (24 : Int32)) hx hb dX6_stands_67 (by decide) ?_
    refine lv_iload_n hx hb dX6_stands_69 rfl (lv_at hl 1 rfl) ?_
    refine lv_iadd hx hb dX6_stands_70 ?_
    refine lv_aload_n hx hb dX6_stands_71 rfl (lv_at hl 0 rfl) ?_
    refine m_get S hK hM 41 (Nat.le_of_ble_eq_true rfl) q1773 (v := .ref (ma b 41)) rfl dX6_stands_72 ?_
    refine lv_iload_n hx hb dX6_stands_75 rfl (lv_at hl 1 rfl) ?_
    replace h := ob h
    obtain ⟨v2, hv2, h⟩ := h
    refine m_lald S hK hM 41 rfl hv2 dX6_stands_76 ?_
    replace h := ob h
    obtain ⟨σ3, hσ3, h⟩ := h
    refine m_last S hK hM hS 41 rfl hσ3 dX6_stands_77 (fun H locs hM hS => ?_)
    refine lv_iinc (v := (a1 + (1 : Int32))) (lv' := [(1, .int (a1 + (1 : Int32))), (0, .ref b)]) hx hb dX6_stands_78 hl (k := 1) rfl rfl (by decide) rfl (fun ls hl => ?_)
    refine lv_goto (tgt := 57) hx hb dX6_stands_81 (by decide) ?_
    exact ih σ3 (a1 + (1 : Int32)) h _ _ hM hS _ (lv_sub hl [1, 0] rfl)
set_option maxHeartbeats 4000000 in
theorem wX6_stands_2 {p : Program} {l : Launch} {e : Env} {s : State} {m : MethodId} {args : Array Value} {below : List Frame} {meth : Method} {c : Code} {G : mG} {b : Nat} (S : CallFix p m c cX6_stands 2 s args lw_all RX6) (hr : meth.sig.returnType = none) (hlk : meth.locks = false) (hK : mK G s) {x : MS} : ∀ (n : Nat) (σ : MS) (a1 : Int32), fX6_stands_2 n σ a1 = some x → mGo p l e rmX6_stands s m args below meth c G b (MQ below (mQv G b x) args s 0 0 (mB b)) 2 2 [(0, .ref b), (1, .int a1)] [] σ := by
  obtain ⟨hx, hb, hml, hown, hts⟩ := id S
  intro n
  induction n with
  | zero => intro σ a1 h; cases h
  | succ n ih =>
    intro σ a1 h H locs hM hS ls hl
    rw [fX6_stands_2] at h
    refine lv_iload_n hx hb dX6_stands_2 rfl (lv_at hl 1 rfl) ?_
    refine lv_iconst (v := (3 : Int32)) hx hb dX6_stands_3 (by decide) ?_
    refine lv_icmp_ge (tgt := 55) hx hb dX6_stands_4 (by decide) (fun c1 => ?_) (fun c1 => ?_)
    · replace h := it c1 h
      refine lv_iconst (v := (0 : Int32)) hx hb dX6_stands_55 (by decide) ?_
      refine lv_istore_n (lv' := [(1, .int (0 : Int32)), (0, .ref b)]) hx hb dX6_stands_56 rfl hl (by decide) rfl (fun ls hl => ?_)
      exact wX6_stands_57 S hr hlk hK FU σ (0 : Int32) h _ _ hM hS _ (lv_sub hl [1, 0] rfl)
    replace h := ie c1 h
    refine lv_aload_n hx hb dX6_stands_7 rfl (lv_at hl 0 rfl) ?_
    refine m_get S hK hM 40 (Nat.le_of_ble_eq_true rfl) q1772 (v := .ref (ma b 40)) rfl dX6_stands_8 ?_
    refine lv_iconst (v := (3 : Int32)) hx hb dX6_stands_11 (by decide) ?_
    refine lv_iload_n hx hb dX6_stands_12 rfl (lv_at hl 1 rfl) ?_
    refine lv_iadd hx hb dX6_stands_13 ?_
    refine lv_aload_n hx hb dX6_stands_14 rfl (lv_at hl 0 rfl) ?_
    refine m_get S hK hM 40 (Nat.le_of_ble_eq_true rfl) q1772 (v := .ref (ma b 40)) rfl dX6_stands_15 ?_
    refine lv_iload_n hx hb dX6_stands_18 rfl (lv_at hl 1 rfl) ?_
    replace h := ob h
    obtain ⟨v2, hv2, h⟩ := h
    refine m_iald S hK hM 40 rfl hv2 dX6_stands_19 ?_
    replace h := ob h
    obtain ⟨σ3, hσ3, h⟩ := h
    refine m_iast S hK hM hS 40 rfl hσ3 dX6_stands_20 (fun H locs hM hS => ?_)
    refine lv_aload_n hx hb dX6_stands_21 rfl (lv_at hl 0 rfl) ?_
    refine m_get S hK hM 48 (Nat.le_of_ble_eq_true rfl) q1780 (v := .ref (ma b 48)) rfl dX6_stands_22 ?_
    refine lv_iconst (v := (3 : Int32)) hx hb dX6_stands_25 (by decide) ?_
    refine lv_iload_n hx hb dX6_stands_26 rfl (lv_at hl 1 rfl) ?_
    refine lv_iadd hx hb dX6_stands_27 ?_
    refine lv_aload_n hx hb dX6_stands_28 rfl (lv_at hl 0 rfl) ?_
    refine m_get S hK hM 48 (Nat.le_of_ble_eq_true rfl) q1780 (v := .ref (ma b 48)) rfl dX6_stands_29 ?_
    refine lv_iload_n hx hb dX6_stands_32 rfl (lv_at hl 1 rfl) ?_
    replace h := ob h
    obtain ⟨v4, hv4, h⟩ := h
    refine m_iald S hK hM 48 rfl hv4 dX6_stands_33 ?_
    replace h := ob h
    obtain ⟨σ5, hσ5, h⟩ := h
    refine m_iast S hK hM hS 48 rfl hσ5 dX6_stands_34 (fun H locs hM hS => ?_)
    refine lv_aload_n hx hb dX6_stands_35 rfl (lv_at hl 0 rfl) ?_
    refine m_get S hK hM 49 (Nat.le_of_ble_eq_true rfl) q1781 (v := .ref (ma b 49)) rfl dX6_stands_36 ?_
    refine lv_iconst (v := (3 : Int32)) hx hb dX6_stands_39 (by decide) ?_
    refine lv_iload_n hx hb dX6_stands_40 rfl (lv_at hl 1 rfl) ?_
    refine lv_iadd hx hb dX6_stands_41 ?_
    refine lv_aload_n hx hb dX6_stands_42 rfl (lv_at hl 0 rfl) ?_
    refine m_get S hK hM 49 (Nat.le_of_ble_eq_true rfl) q1781 (v := .ref (ma b 49)) rfl dX6_stands_43 ?_
    refine lv_iload_n hx hb dX6_stands_46 rfl (lv_at hl 1 rfl) ?_
    replace h := ob h
    obtain ⟨v6, hv6, h⟩ := h
    refine m_iald S hK hM 49 rfl hv6 dX6_stands_47 ?_
    replace h := ob h
    obtain ⟨σ7, hσ7, h⟩ := h
    refine m_iast S hK hM hS 49 rfl hσ7 dX6_stands_48 (fun H locs hM hS => ?_)
    refine lv_iinc (v := (a1 + (1 : Int32))) (lv' := [(1, .int (a1 + (1 : Int32))), (0, .ref b)]) hx hb dX6_stands_49 hl (k := 1) rfl rfl (by decide) rfl (fun ls hl => ?_)
    refine lv_goto (tgt := 2) hx hb dX6_stands_52 (by decide) ?_
    exact ih σ7 (a1 + (1 : Int32)) h _ _ hM hS _ (lv_sub hl [1, 0] rfl)
set_option maxHeartbeats 4000000 in
theorem metX6_stands {l : Launch} {G : mG} {b : Nat} {σ : MS} {x : MS} (h : fX6_stands σ = some x) : Met l yX6_stands (ws_ yX6_stands cX6_stands 2 (none)) rmX6_stands (mP G b σ [.ref b]) (mQv G b x) 0 0 (mB b) := by
  refine m_entry (by decide) rfl (Nat.le_of_ble_eq_true rfl) ?_
  intro p e s m below meth c S hr hlk hK hM hS ls hl
  replace hl : lv_has ls 2 [(0, .ref b)] := hl
  obtain ⟨hx, hb, hml, hown, hts⟩ := id S
  unfold fX6_stands at h
  refine lv_iconst (v := (0 : Int32)) hx hb dX6_stands_0 (by decide) ?_
  refine lv_istore_n (lv' := [(1, .int (0 : Int32)), (0, .ref b)]) hx hb dX6_stands_1 rfl hl (by decide) rfl (fun ls hl => ?_)
  exact wX6_stands_2 S hr hlk hK FU σ (0 : Int32) h _ _ hM hS _ (lv_sub hl [1, 0] rfl)
theorem kX6_stands {p : Program} {l : Launch} {e : Env} {R : Room} {s : State} {m : MethodId} {args : Array Value} {below : List Frame} {meth : Method} {c : Code} {H H0 : Heap} {locs : List Loc} {Q : State → Prop} {cc : ByteArray} {nL pc : Nat} {ls : Array Slot} {rest : List Value} {G : mG} {b : Nat} {σ : MS} {x : MS} (S : CallFix p m c cc nL s args lw_all RX6) (hK : mK G s) (hM : MW G b σ H) (hS : va_S (mB b) H0 H locs) (hf : fX6_stands σ = some x) (hR : rmX6_stands.frames + 1 ≤ R.frames ∧ 8 + (2 + 11) + rmX6_stands.locals ≤ R.locals) (hsize : ls.size = nL) (hr : (rest.map fun v => v.category).sum ≤ 8) (hdg : decode cc pc = .ok (.invokevirtual 390, 3)) (kk : ∀ (H1 : Heap) (locs1 : List Loc), MW G b x H1 → va_S (mB b) H0 H1 locs1 → W p l e R s m args below meth c H1 locs1 0 0 Q (F0 m (pc + 3) ls (rest))) : W p l e R s m args below meth c H locs 0 0 Q (F0 m pc ls (.ref b :: rest)) :=
  m_cVv (As := []) S hK hM hS (metX6_stands hf) (cwV 0 S.2.2.2.2 (lw_V q2234 q2236 qs106 q179 q2237) rfl rfl rfl (by decide +kernel) hR) ⟨Nat.zero_le _, Nat.zero_le _⟩ rfl hsize rfl hr hdg kk
/-! fail(II)V -/
abbrev rmX6_fail : Room := { frames := 1, cells := 0, slots := 0, locals := 0 }
def fX6_fail (σ : MS) (a1 : Int32) (a2 : Int32) : Option (MS) :=
  if (σ.1 5) = 0 then
    some (sI (sI σ 5 a1) 6 a2)
  else
  some σ
set_option maxHeartbeats 4000000 in
theorem metX6_fail {l : Launch} {G : mG} {b : Nat} {σ : MS} {a1 : Int32} {a2 : Int32} {x : MS} (h : fX6_fail σ a1 a2 = some x) : Met l yX6_fail (ws_ yX6_fail cX6_fail 3 (none)) rmX6_fail (mP G b σ [.ref b, .int a1, .int a2]) (mQv G b x) 0 0 (mB b) := by
  refine m_entry (by decide) rfl (Nat.le_of_ble_eq_true rfl) ?_
  intro p e s m below meth c S hr hlk hK hM hS ls hl
  replace hl : lv_has ls 3 [(0, .ref b), (1, .int a1), (2, .int a2)] := hl
  obtain ⟨hx, hb, hml, hown, hts⟩ := id S
  unfold fX6_fail at h
  refine lv_aload_n hx hb dX6_fail_0 rfl (lv_at hl 0 rfl) ?_
  refine m_get S hK hM 5 (Nat.le_of_ble_eq_true rfl) q1737 (v := .int (σ.1 5)) rfl dX6_fail_1 ?_
  refine lv_if_eq (tgt := 8) hx hb dX6_fail_4 (by decide) (fun c1 => ?_) (fun c1 => ?_)
  rotate_left 1
  · replace h := ie c1 h
    exact m_vret S hr hlk hM hS h dX6_fail_7
  replace h := it c1 h
  refine lv_aload_n hx hb dX6_fail_8 rfl (lv_at hl 0 rfl) ?_
  refine lv_iload_n hx hb dX6_fail_9 rfl (lv_at hl 1 rfl) ?_
  refine m_putI S hK hM hS 5 (Nat.le_of_ble_eq_true rfl) rfl q1737 rfl (ty := .int) rfl rfl rfl dX6_fail_10 (fun H locs hM hS => ?_)
  refine lv_aload_n hx hb dX6_fail_13 rfl (lv_at hl 0 rfl) ?_
  refine lv_iload_n hx hb dX6_fail_14 rfl (lv_at hl 2 rfl) ?_
  refine m_putI S hK hM hS 6 (Nat.le_of_ble_eq_true rfl) rfl q1738 rfl (ty := .int) rfl rfl rfl dX6_fail_15 (fun H locs hM hS => ?_)
  exact m_vret S hr hlk hM hS h dX6_fail_18
theorem kX6_fail {p : Program} {l : Launch} {e : Env} {R : Room} {s : State} {m : MethodId} {args : Array Value} {below : List Frame} {meth : Method} {c : Code} {H H0 : Heap} {locs : List Loc} {Q : State → Prop} {cc : ByteArray} {nL pc : Nat} {ls : Array Slot} {rest : List Value} {G : mG} {b : Nat} {σ : MS} {a1 : Int32} {a2 : Int32} {x : MS} (S : CallFix p m c cc nL s args lw_all RX6) (hK : mK G s) (hM : MW G b σ H) (hS : va_S (mB b) H0 H locs) (hf : fX6_fail σ a1 a2 = some x) (hR : rmX6_fail.frames + 1 ≤ R.frames ∧ 8 + (3 + 11) + rmX6_fail.locals ≤ R.locals) (hsize : ls.size = nL) (hr : (rest.map fun v => v.category).sum ≤ 8) (hdg : decode cc pc = .ok (.invokevirtual 272, 3)) (kk : ∀ (H1 : Heap) (locs1 : List Loc), MW G b x H1 → va_S (mB b) H0 H1 locs1 → W p l e R s m args below meth c H1 locs1 0 0 Q (F0 m (pc + 3) ls (rest))) : W p l e R s m args below meth c H locs 0 0 Q (F0 m pc ls (.int a2 :: .int a1 :: .ref b :: rest)) :=
  m_cVv (As := [.int a1, .int a2]) S hK hM hS (metX6_fail hf) (cwV 2 S.2.2.2.2 (lw_V q2062 q2064 qs67 q179 q2065) rfl rfl rfl (by decide +kernel) hR) ⟨Nat.zero_le _, Nat.zero_le _⟩ rfl hsize rfl hr hdg kk
/-! isLetter(I)Z -/
abbrev rmX6_isLetter : Room := { frames := 1, cells := 0, slots := 0, locals := 0 }
def fX6_isLetter (σ : MS) (a0 : Int32) : Option (Int32) :=
  if a0 < (97 : Int32) then
    some (0 : Int32)
  else
  if (122 : Int32) < a0 then
    some (0 : Int32)
  else
  some (1 : Int32)
set_option maxHeartbeats 4000000 in
theorem metX6_isLetter {l : Launch} {G : mG} {b : Nat} {σ : MS} {a0 : Int32} {x : Int32} (h : fX6_isLetter σ a0 = some x) : Met l yX6_isLetter (ws_ yX6_isLetter cX6_isLetter 1 (some .boolean)) rmX6_isLetter (mP G b σ [.int a0]) (mQi G b (σ, x)) 0 0 (mB b) := by
  refine m_entry (by decide) rfl (Nat.le_of_ble_eq_true rfl) ?_
  intro p e s m below meth c S hr hlk hK hM hS ls hl
  replace hl : lv_has ls 1 [(0, .int a0)] := hl
  obtain ⟨hx, hb, hml, hown, hts⟩ := id S
  unfold fX6_isLetter at h
  refine lv_iload_n hx hb dX6_isLetter_0 rfl (lv_at hl 0 rfl) ?_
  refine lv_bipush (v := (97 : Int32)) hx hb dX6_isLetter_1 (by decide) ?_
  refine lv_icmp_lt (tgt := 16) hx hb dX6_isLetter_3 (by decide) (fun c1 => ?_) (fun c1 => ?_)
  · replace h := it c1 h
    refine lv_iconst (v := (0 : Int32)) hx hb dX6_isLetter_16 (by decide) ?_
    exact m_iret' S hr hlk rfl hM hS h dX6_isLetter_17
  replace h := ie c1 h
  refine lv_iload_n hx hb dX6_isLetter_6 rfl (lv_at hl 0 rfl) ?_
  refine lv_bipush (v := (122 : Int32)) hx hb dX6_isLetter_7 (by decide) ?_
  refine lv_icmp_gt (tgt := 16) hx hb dX6_isLetter_9 (by decide) (fun c2 => ?_) (fun c2 => ?_)
  · replace h := it c2 h
    refine lv_iconst (v := (0 : Int32)) hx hb dX6_isLetter_16 (by decide) ?_
    exact m_iret' S hr hlk rfl hM hS h dX6_isLetter_17
  replace h := ie c2 h
  refine lv_iconst (v := (1 : Int32)) hx hb dX6_isLetter_12 (by decide) ?_
  refine lv_goto (tgt := 17) hx hb dX6_isLetter_13 (by decide) ?_
  exact m_iret' S hr hlk rfl hM hS h dX6_isLetter_17
theorem kX6_isLetter {p : Program} {l : Launch} {e : Env} {R : Room} {s : State} {m : MethodId} {args : Array Value} {below : List Frame} {meth : Method} {c : Code} {H H0 : Heap} {locs : List Loc} {Q : State → Prop} {cc : ByteArray} {nL pc : Nat} {ls : Array Slot} {rest : List Value} {G : mG} {b : Nat} {σ : MS} {a0 : Int32} {x : Int32} (S : CallFix p m c cc nL s args lw_all RX6) (hK : mK G s) (hM : MW G b σ H) (hS : va_S (mB b) H0 H locs) (hf : fX6_isLetter σ a0 = some x) (hR : rmX6_isLetter.frames + 1 ≤ R.frames ∧ 8 + (1 + 11) + rmX6_isLetter.locals ≤ R.locals) (hsize : ls.size = nL) (hr : (rest.map fun v => v.category).sum ≤ 8) (hdg : decode cc pc = .ok (.invokestatic 258, 3)) (kk : ∀ (H1 : Heap) (locs1 : List Loc), MW G b σ H1 → va_S (mB b) H0 H1 locs1 → W p l e R s m args below meth c H1 locs1 0 0 Q (F0 m (pc + 3) ls (.int x :: rest))) : W p l e R s m args below meth c H locs 0 0 Q (F0 m pc ls (.int a0 :: rest)) :=
  m_cSi (As := [.int a0]) S hK hM hS (metX6_isLetter hf) (va_cwS 1 S.2.2.2.2 (lw_S q2074 q2075 q179 q2076) rfl rfl rfl (by decide +kernel) hR) ⟨Nat.zero_le _, Nat.zero_le _⟩ rfl hsize rfl hr hdg kk
/-! isHere([C)Z -/
abbrev rmX6_isHere : Room := { frames := 2, cells := 0, slots := 0, locals := 20 }
def fX6_isHere_76 : Nat → MS → Nat → Int32 → Option (MS × Int32)
  | 0, _, _, _ => none
  | n + 1, σ, a1, a3 =>
    (aN a1).bind fun v1 =>
    if v1 ≤ a3 then
      some (σ, (1 : Int32))
    else
    (aI σ 0 ((σ.1 2) + a3)).bind fun v3 =>
    (aC σ a1 a3).bind fun v4 =>
    if v3 = v4 then
      fX6_isHere_76 n σ a1 (a3 + (1 : Int32))
    else
    some (σ, (0 : Int32))
def fX6_isHere_61 (σ : MS) (a1 : Nat) (a2 : Int32) : Option (MS × Int32) :=
  (aN a1).bind fun v1 =>
  if (a2 - (σ.1 2)) = v1 then
    fX6_isHere_76 FU σ a1 (0 : Int32)
  else
  some (σ, (0 : Int32))
def fX6_isHere_35 : Nat → MS → Nat → Int32 → Option (MS × Int32)
  | 0, _, _, _ => none
  | n + 1, σ, a1, a2 =>
    if (σ.1 3) ≤ a2 then
      fX6_isHere_61 σ a1 a2
    else
    (aI σ 0 a2).bind fun v2 =>
    (fX6_isLetter σ v2).bind fun x3 =>
    if x3 = 0 then
      fX6_isHere_61 σ a1 a2
    else
    fX6_isHere_35 n σ a1 (a2 + (1 : Int32))
def fX6_isHere (σ : MS) (a1 : Nat) : Option (MS × Int32) :=
  if (σ.1 5) = 0 then
    (fX6_look σ).bind fun x2 =>
    (fX6_isLetter x2.1 x2.2).bind fun x3 =>
    if x3 = 0 then
      some (x2.1, (0 : Int32))
    else
    if (x2.1.1 2) = (x2.1.1 4) then
      some (x2.1, (0 : Int32))
    else
    fX6_isHere_35 FU x2.1 a1 (x2.1.1 2)
  else
  some (σ, (0 : Int32))
set_option maxHeartbeats 4000000 in
theorem wX6_isHere_76 {p : Program} {l : Launch} {e : Env} {s : State} {m : MethodId} {args : Array Value} {below : List Frame} {meth : Method} {c : Code} {G : mG} {b : Nat} (S : CallFix p m c cX6_isHere 4 s args lw_all RX6) (hr : meth.sig.returnType = some .boolean) (hlk : meth.locks = false) (hK : mK G s) {x : MS × Int32} : ∀ (n : Nat) (σ : MS) (a1 : Nat) (a3 : Int32), fX6_isHere_76 n σ a1 a3 = some x → mGo p l e rmX6_isHere s m args below meth c G b (MQ below (mQi G b x) args s 0 0 (mB b)) 4 76 [(0, .ref b), (1, .ref (ma b a1)), (3, .int a3)] [] σ := by
  obtain ⟨hx, hb, hml, hown, hts⟩ := id S
  intro n
  induction n with
  | zero => intro σ a1 a3 h; cases h
  | succ n ih =>
    intro σ a1 a3 h H locs hM hS ls hl
    rw [fX6_isHere_76] at h
    refine lv_iload_n hx hb dX6_isHere_76 rfl (lv_at hl 2 rfl) ?_
    refine lv_aload_n hx hb dX6_isHere_77 rfl (lv_at hl 1 rfl) ?_
    replace h := ob h
    obtain ⟨v1, hv1, h⟩ := h
    refine m_alen S hK hM a1 hv1 dX6_isHere_78 ?_
    refine lv_icmp_ge (tgt := 107) hx hb dX6_isHere_79 (by decide) (fun c2 => ?_) (fun c2 => ?_)
    · replace h := it c2 h
      refine lv_iconst (v := (1 : Int32)) hx hb dX6_isHere_107 (by decide) ?_
      exact m_iret S hr hlk rfl hM hS h dX6_isHere_108
    replace h := ie c2 h
    refine lv_aload_n hx hb dX6_isHere_82 rfl (lv_at hl 0 rfl) ?_
    refine m_get S hK hM 0 (Nat.le_of_ble_eq_true rfl) q1732 (v := .ref (ma b 0)) rfl dX6_isHere_83 ?_
    refine lv_aload_n hx hb dX6_isHere_86 rfl (lv_at hl 0 rfl) ?_
    refine m_get S hK hM 2 (Nat.le_of_ble_eq_true rfl) q1734 (v := .int (σ.1 2)) rfl dX6_isHere_87 ?_
    refine lv_iload_n hx hb dX6_isHere_90 rfl (lv_at hl 2 rfl) ?_
    refine lv_iadd hx hb dX6_isHere_91 ?_
    replace h := ob h
    obtain ⟨v3, hv3, h⟩ := h
    refine m_iald S hK hM 0 rfl hv3 dX6_isHere_92 ?_
    refine lv_aload_n hx hb dX6_isHere_93 rfl (lv_at hl 1 rfl) ?_
    refine lv_iload_n hx hb dX6_isHere_94 rfl (lv_at hl 2 rfl) ?_
    replace h := ob h
    obtain ⟨v4, hv4, h⟩ := h
    refine m_cald S hK hM a1 hv4 dX6_isHere_95 ?_
    refine lv_icmp_eq (tgt := 101) hx hb dX6_isHere_96 (by decide) (fun c5 => ?_) (fun c5 => ?_)
    rotate_left 1
    · replace h := ie c5 h
      refine lv_iconst (v := (0 : Int32)) hx hb dX6_isHere_99 (by decide) ?_
      exact m_iret S hr hlk rfl hM hS h dX6_isHere_100
    replace h := it c5 h
    refine lv_iinc (v := (a3 + (1 : Int32))) (lv' := [(3, .int (a3 + (1 : Int32))), (0, .ref b), (1, .ref (ma b a1))]) hx hb dX6_isHere_101 hl (k := 2) rfl rfl (by decide) rfl (fun ls hl => ?_)
    refine lv_goto (tgt := 76) hx hb dX6_isHere_104 (by decide) ?_
    exact ih σ a1 (a3 + (1 : Int32)) h _ _ hM hS _ (lv_sub hl [1, 2, 0] rfl)
set_option maxHeartbeats 4000000 in
theorem wX6_isHere_61 {p : Program} {l : Launch} {e : Env} {s : State} {m : MethodId} {args : Array Value} {below : List Frame} {meth : Method} {c : Code} {G : mG} {b : Nat} (S : CallFix p m c cX6_isHere 4 s args lw_all RX6) (hr : meth.sig.returnType = some .boolean) (hlk : meth.locks = false) (hK : mK G s) {x : MS × Int32} : ∀ (σ : MS) (a1 : Nat) (a2 : Int32), fX6_isHere_61 σ a1 a2 = some x → mGo p l e rmX6_isHere s m args below meth c G b (MQ below (mQi G b x) args s 0 0 (mB b)) 4 61 [(0, .ref b), (1, .ref (ma b a1)), (2, .int a2)] [] σ := by
  obtain ⟨hx, hb, hml, hown, hts⟩ := id S
  intro σ a1 a2 h H locs hM hS ls hl
  unfold fX6_isHere_61 at h
  refine lv_iload_n hx hb dX6_isHere_61 rfl (lv_at hl 2 rfl) ?_
  refine lv_aload_n hx hb dX6_isHere_62 rfl (lv_at hl 0 rfl) ?_
  refine m_get S hK hM 2 (Nat.le_of_ble_eq_true rfl) q1734 (v := .int (σ.1 2)) rfl dX6_isHere_63 ?_
  refine lv_isub hx hb dX6_isHere_66 ?_
  refine lv_aload_n hx hb dX6_isHere_67 rfl (lv_at hl 1 rfl) ?_
  replace h := ob h
  obtain ⟨v1, hv1, h⟩ := h
  refine m_alen S hK hM a1 hv1 dX6_isHere_68 ?_
  refine lv_icmp_eq (tgt := 74) hx hb dX6_isHere_69 (by decide) (fun c2 => ?_) (fun c2 => ?_)
  rotate_left 1
  · replace h := ie c2 h
    refine lv_iconst (v := (0 : Int32)) hx hb dX6_isHere_72 (by decide) ?_
    exact m_iret S hr hlk rfl hM hS h dX6_isHere_73
  replace h := it c2 h
  refine lv_iconst (v := (0 : Int32)) hx hb dX6_isHere_74 (by decide) ?_
  refine lv_istore_n (lv' := [(3, .int (0 : Int32)), (0, .ref b), (1, .ref (ma b a1)), (2, .int a2)]) hx hb dX6_isHere_75 rfl hl (by decide) rfl (fun ls hl => ?_)
  exact wX6_isHere_76 S hr hlk hK FU σ a1 (0 : Int32) h _ _ hM hS _ (lv_sub hl [1, 2, 0] rfl)
set_option maxHeartbeats 4000000 in
theorem wX6_isHere_35 {p : Program} {l : Launch} {e : Env} {s : State} {m : MethodId} {args : Array Value} {below : List Frame} {meth : Method} {c : Code} {G : mG} {b : Nat} (S : CallFix p m c cX6_isHere 4 s args lw_all RX6) (hr : meth.sig.returnType = some .boolean) (hlk : meth.locks = false) (hK : mK G s) {x : MS × Int32} : ∀ (n : Nat) (σ : MS) (a1 : Nat) (a2 : Int32), fX6_isHere_35 n σ a1 a2 = some x → mGo p l e rmX6_isHere s m args below meth c G b (MQ below (mQi G b x) args s 0 0 (mB b)) 4 35 [(0, .ref b), (1, .ref (ma b a1)), (2, .int a2)] [] σ := by
  obtain ⟨hx, hb, hml, hown, hts⟩ := id S
  intro n
  induction n with
  | zero => intro σ a1 a2 h; cases h
  | succ n ih =>
    intro σ a1 a2 h H locs hM hS ls hl
    rw [fX6_isHere_35] at h
    refine lv_iload_n hx hb dX6_isHere_35 rfl (lv_at hl 2 rfl) ?_
    refine lv_aload_n hx hb dX6_isHere_36 rfl (lv_at hl 0 rfl) ?_
    refine m_get S hK hM 3 (Nat.le_of_ble_eq_true rfl) q1735 (v := .int (σ.1 3)) rfl dX6_isHere_37 ?_
    refine lv_icmp_ge (tgt := 61) hx hb dX6_isHere_40 (by decide) (fun c1 => ?_) (fun c1 => ?_)
    · replace h := it c1 h
      exact wX6_isHere_61 S hr hlk hK σ a1 a2 h _ _ hM hS _ (lv_sub hl [0, 1, 2] rfl)
    replace h := ie c1 h
    refine lv_aload_n hx hb dX6_isHere_43 rfl (lv_at hl 0 rfl) ?_
    refine m_get S hK hM 0 (Nat.le_of_ble_eq_true rfl) q1732 (v := .ref (ma b 0)) rfl dX6_isHere_44 ?_
    refine lv_iload_n hx hb dX6_isHere_47 rfl (lv_at hl 2 rfl) ?_
    replace h := ob h
    obtain ⟨v2, hv2, h⟩ := h
    refine m_iald S hK hM 0 rfl hv2 dX6_isHere_48 ?_
    replace h := ob h
    obtain ⟨x3, hx3, h⟩ := h
    refine kX6_isLetter S hK hM hS hx3 ⟨Nat.le_of_ble_eq_true rfl, Nat.le_of_ble_eq_true rfl⟩ hl.1 (Nat.le_of_ble_eq_true rfl) dX6_isHere_49 (fun H locs hM hS => ?_)
    refine lv_if_eq (tgt := 61) hx hb dX6_isHere_52 (by decide) (fun c4 => ?_) (fun c4 => ?_)
    · replace h := it c4 h
      exact wX6_isHere_61 S hr hlk hK σ a1 a2 h _ _ hM hS _ (lv_sub hl [0, 1, 2] rfl)
    replace h := ie c4 h
    refine lv_iinc (v := (a2 + (1 : Int32))) (lv' := [(2, .int (a2 + (1 : Int32))), (0, .ref b), (1, .ref (ma b a1))]) hx hb dX6_isHere_55 hl (k := 2) rfl rfl (by decide) rfl (fun ls hl => ?_)
    refine lv_goto (tgt := 35) hx hb dX6_isHere_58 (by decide) ?_
    exact ih σ a1 (a2 + (1 : Int32)) h _ _ hM hS _ (lv_sub hl [1, 2, 0] rfl)
set_option maxHeartbeats 4000000 in
theorem metX6_isHere {l : Launch} {G : mG} {b : Nat} {σ : MS} {a1 : Nat} {x : MS × Int32} (h : fX6_isHere σ a1 = some x) : Met l yX6_isHere (ws_ yX6_isHere cX6_isHere 4 (some .boolean)) rmX6_isHere (mP G b σ [.ref b, .ref (ma b a1)]) (mQi G b x) 0 0 (mB b) := by
  refine m_entry (by decide) rfl (Nat.le_of_ble_eq_true rfl) ?_
  intro p e s m below meth c S hr hlk hK hM hS ls hl
  replace hl : lv_has ls 4 [(0, .ref b), (1, .ref (ma b a1))] := hl
  obtain ⟨hx, hb, hml, hown, hts⟩ := id S
  unfold fX6_isHere at h
  refine lv_aload_n hx hb dX6_isHere_0 rfl (lv_at hl 0 rfl) ?_
  refine m_get S hK hM 5 (Nat.le_of_ble_eq_true rfl) q1737 (v := .int (σ.1 5)) rfl dX6_isHere_1 ?_
  refine lv_if_ne (tgt := 28) hx hb dX6_isHere_4 (by decide) (fun c1 => ?_) (fun c1 => ?_)
  · replace h := ie c1 h
    refine lv_iconst (v := (0 : Int32)) hx hb dX6_isHere_28 (by decide) ?_
    exact m_iret S hr hlk rfl hM hS h dX6_isHere_29
  replace h := it c1 h
  refine lv_aload_n hx hb dX6_isHere_7 rfl (lv_at hl 0 rfl) ?_
  replace h := ob h
  obtain ⟨x2, hx2, h⟩ := h
  refine kX6_look S hK hM hS hx2 ⟨Nat.le_of_ble_eq_true rfl, Nat.le_of_ble_eq_true rfl⟩ hl.1 (Nat.le_of_ble_eq_true rfl) dX6_isHere_8 (fun H locs hM hS => ?_)
  replace h := ob h
  obtain ⟨x3, hx3, h⟩ := h
  refine kX6_isLetter S hK hM hS hx3 ⟨Nat.le_of_ble_eq_true rfl, Nat.le_of_ble_eq_true rfl⟩ hl.1 (Nat.le_of_ble_eq_true rfl) dX6_isHere_11 (fun H locs hM hS => ?_)
  refine lv_if_eq (tgt := 28) hx hb dX6_isHere_14 (by decide) (fun c4 => ?_) (fun c4 => ?_)
  · replace h := it c4 h
    refine lv_iconst (v := (0 : Int32)) hx hb dX6_isHere_28 (by decide) ?_
    exact m_iret S hr hlk rfl hM hS h dX6_isHere_29
  replace h := ie c4 h
  refine lv_aload_n hx hb dX6_isHere_17 rfl (lv_at hl 0 rfl) ?_
  refine m_get S hK hM 2 (Nat.le_of_ble_eq_true rfl) q1734 (v := .int (x2.1.1 2)) rfl dX6_isHere_18 ?_
  refine lv_aload_n hx hb dX6_isHere_21 rfl (lv_at hl 0 rfl) ?_
  refine m_get S hK hM 4 (Nat.le_of_ble_eq_true rfl) q1736 (v := .int (x2.1.1 4)) rfl dX6_isHere_22 ?_
  refine lv_icmp_ne (tgt := 30) hx hb dX6_isHere_25 (by decide) (fun c5 => ?_) (fun c5 => ?_)
  rotate_left 1
  · replace h := it c5 h
    refine lv_iconst (v := (0 : Int32)) hx hb dX6_isHere_28 (by decide) ?_
    exact m_iret S hr hlk rfl hM hS h dX6_isHere_29
  replace h := ie c5 h
  refine lv_aload_n hx hb dX6_isHere_30 rfl (lv_at hl 0 rfl) ?_
  refine m_get S hK hM 2 (Nat.le_of_ble_eq_true rfl) q1734 (v := .int (x2.1.1 2)) rfl dX6_isHere_31 ?_
  refine lv_istore_n (lv' := [(2, .int (x2.1.1 2)), (0, .ref b), (1, .ref (ma b a1))]) hx hb dX6_isHere_34 rfl hl (by decide) rfl (fun ls hl => ?_)
  exact wX6_isHere_35 S hr hlk hK FU x2.1 a1 (x2.1.1 2) h _ _ hM hS _ (lv_sub hl [1, 2, 0] rfl)
theorem kX6_isHere {p : Program} {l : Launch} {e : Env} {R : Room} {s : State} {m : MethodId} {args : Array Value} {below : List Frame} {meth : Method} {c : Code} {H H0 : Heap} {locs : List Loc} {Q : State → Prop} {cc : ByteArray} {nL pc : Nat} {ls : Array Slot} {rest : List Value} {G : mG} {b : Nat} {σ : MS} {a1 : Nat} {x : MS × Int32} (S : CallFix p m c cc nL s args lw_all RX6) (hK : mK G s) (hM : MW G b σ H) (hS : va_S (mB b) H0 H locs) (hf : fX6_isHere σ a1 = some x) (hR : rmX6_isHere.frames + 1 ≤ R.frames ∧ 8 + (4 + 11) + rmX6_isHere.locals ≤ R.locals) (hsize : ls.size = nL) (hr : (rest.map fun v => v.category).sum ≤ 8) (hdg : decode cc pc = .ok (.invokevirtual 265, 3)) (kk : ∀ (H1 : Heap) (locs1 : List Loc), MW G b x.1 H1 → va_S (mB b) H0 H1 locs1 → W p l e R s m args below meth c H1 locs1 0 0 Q (F0 m (pc + 3) ls (.int x.2 :: rest))) : W p l e R s m args below meth c H locs 0 0 Q (F0 m pc ls (.ref (ma b a1) :: .ref b :: rest)) :=
  m_cVi (As := [.ref (ma b a1)]) S hK hM hS (metX6_isHere hf) (cwV 1 S.2.2.2.2 (lw_V q2070 q2072 qs69 q179 q2073) rfl rfl rfl (by decide +kernel) hR) ⟨Nat.zero_le _, Nat.zero_le _⟩ rfl hsize rfl hr hdg kk
/-! takes([C)Z -/
abbrev rmX6_takes : Room := { frames := 3, cells := 0, slots := 0, locals := 43 }
def fX6_takes (σ : MS) (a1 : Nat) : Option (MS × Int32) :=
  (fX6_isHere σ a1).bind fun x1 =>
  if x1.2 = 0 then
    some (x1.1, (0 : Int32))
  else
  (aN a1).bind fun v3 =>
  some ((sI (sI x1.1 2 ((x1.1.1 2) + v3)) 4 ((sI x1.1 2 ((x1.1.1 2) + v3)).1 2)), (1 : Int32))
set_option maxHeartbeats 4000000 in
theorem metX6_takes {l : Launch} {G : mG} {b : Nat} {σ : MS} {a1 : Nat} {x : MS × Int32} (h : fX6_takes σ a1 = some x) : Met l yX6_takes (ws_ yX6_takes cX6_takes 2 (some .boolean)) rmX6_takes (mP G b σ [.ref b, .ref (ma b a1)]) (mQi G b x) 0 0 (mB b) := by
  refine m_entry (by decide) rfl (Nat.le_of_ble_eq_true rfl) ?_
  intro p e s m below meth c S hr hlk hK hM hS ls hl
  replace hl : lv_has ls 2 [(0, .ref b), (1, .ref (ma b a1))] := hl
  obtain ⟨hx, hb, hml, hown, hts⟩ := id S
  unfold fX6_takes at h
  refine lv_aload_n hx hb dX6_takes_0 rfl (lv_at hl 0 rfl) ?_
  refine lv_aload_n hx hb dX6_takes_1 rfl (lv_at hl 1 rfl) ?_
  replace h := ob h
  obtain ⟨x1, hx1, h⟩ := h
  refine kX6_isHere S hK hM hS hx1 ⟨Nat.le_of_ble_eq_true rfl, Nat.le_of_ble_eq_true rfl⟩ hl.1 (Nat.le_of_ble_eq_true rfl) dX6_takes_2 (fun H locs hM hS => ?_)
  refine lv_if_ne (tgt := 10) hx hb dX6_takes_5 (by decide) (fun c2 => ?_) (fun c2 => ?_)
  rotate_left 1
  · replace h := it c2 h
    refine lv_iconst (v := (0 : Int32)) hx hb dX6_takes_8 (by decide) ?_
    exact m_iret S hr hlk rfl hM hS h dX6_takes_9
  replace h := ie c2 h
  refine lv_aload_n hx hb dX6_takes_10 rfl (lv_at hl 0 rfl) ?_
  refine lv_dup hx hb dX6_takes_11 rfl ?_
  refine m_get S hK hM 2 (Nat.le_of_ble_eq_true rfl) q1734 (v := .int (x1.1.1 2)) rfl dX6_takes_12 ?_
  refine lv_aload_n hx hb dX6_takes_15 rfl (lv_at hl 1 rfl) ?_
  replace h := ob h
  obtain ⟨v3, hv3, h⟩ := h
  refine m_alen S hK hM a1 hv3 dX6_takes_16 ?_
  refine lv_iadd hx hb dX6_takes_17 ?_
  refine m_putI S hK hM hS 2 (Nat.le_of_ble_eq_true rfl) rfl q1734 rfl (ty := .int) rfl rfl rfl dX6_takes_18 (fun H locs hM hS => ?_)
  refine lv_aload_n hx hb dX6_takes_21 rfl (lv_at hl 0 rfl) ?_
  refine lv_aload_n hx hb dX6_takes_22 rfl (lv_at hl 0 rfl) ?_
  refine m_get S hK hM 2 (Nat.le_of_ble_eq_true rfl) q1734 (v := .int ((sI x1.1 2 ((x1.1.1 2) + v3)).1 2)) rfl dX6_takes_23 ?_
  refine m_putI S hK hM hS 4 (Nat.le_of_ble_eq_true rfl) rfl q1736 rfl (ty := .int) rfl rfl rfl dX6_takes_26 (fun H locs hM hS => ?_)
  refine lv_iconst (v := (1 : Int32)) hx hb dX6_takes_29 (by decide) ?_
  exact m_iret S hr hlk rfl hM hS h dX6_takes_30
theorem kX6_takes {p : Program} {l : Launch} {e : Env} {R : Room} {s : State} {m : MethodId} {args : Array Value} {below : List Frame} {meth : Method} {c : Code} {H H0 : Heap} {locs : List Loc} {Q : State → Prop} {cc : ByteArray} {nL pc : Nat} {ls : Array Slot} {rest : List Value} {G : mG} {b : Nat} {σ : MS} {a1 : Nat} {x : MS × Int32} (S : CallFix p m c cc nL s args lw_all RX6) (hK : mK G s) (hM : MW G b σ H) (hS : va_S (mB b) H0 H locs) (hf : fX6_takes σ a1 = some x) (hR : rmX6_takes.frames + 1 ≤ R.frames ∧ 8 + (2 + 11) + rmX6_takes.locals ≤ R.locals) (hsize : ls.size = nL) (hr : (rest.map fun v => v.category).sum ≤ 8) (hdg : decode cc pc = .ok (.invokevirtual 269, 3)) (kk : ∀ (H1 : Heap) (locs1 : List Loc), MW G b x.1 H1 → va_S (mB b) H0 H1 locs1 → W p l e R s m args below meth c H1 locs1 0 0 Q (F0 m (pc + 3) ls (.int x.2 :: rest))) : W p l e R s m args below meth c H locs 0 0 Q (F0 m pc ls (.ref (ma b a1) :: .ref b :: rest)) :=
  m_cVi (As := [.ref (ma b a1)]) S hK hM hS (metX6_takes hf) (cwV 1 S.2.2.2.2 (lw_V q2066 q2068 qs68 q179 q2069) rfl rfl rfl (by decide +kernel) hR) ⟨Nat.zero_le _, Nat.zero_le _⟩ rfl hsize rfl hr hdg kk
/-! asks([C)V -/
abbrev rmX6_asks : Room := { frames := 4, cells := 0, slots := 0, locals := 64 }
def fX6_asks (σ : MS) (a1 : Nat) : Option (MS) :=
  if (σ.1 5) = 0 then
    (fX6_takes σ a1).bind fun x2 =>
    if x2.2 = 0 then
      (fX6_fail x2.1 (1 : Int32) (x2.1.1 2)).bind fun x4 =>
      some x4
    else
    some x2.1
  else
  some σ
set_option maxHeartbeats 4000000 in
theorem metX6_asks {l : Launch} {G : mG} {b : Nat} {σ : MS} {a1 : Nat} {x : MS} (h : fX6_asks σ a1 = some x) : Met l yX6_asks (ws_ yX6_asks cX6_asks 2 (none)) rmX6_asks (mP G b σ [.ref b, .ref (ma b a1)]) (mQv G b x) 0 0 (mB b) := by
  refine m_entry (by decide) rfl (Nat.le_of_ble_eq_true rfl) ?_
  intro p e s m below meth c S hr hlk hK hM hS ls hl
  replace hl : lv_has ls 2 [(0, .ref b), (1, .ref (ma b a1))] := hl
  obtain ⟨hx, hb, hml, hown, hts⟩ := id S
  unfold fX6_asks at h
  refine lv_aload_n hx hb dX6_asks_0 rfl (lv_at hl 0 rfl) ?_
  refine m_get S hK hM 5 (Nat.le_of_ble_eq_true rfl) q1737 (v := .int (σ.1 5)) rfl dX6_asks_1 ?_
  refine lv_if_ne (tgt := 24) hx hb dX6_asks_4 (by decide) (fun c1 => ?_) (fun c1 => ?_)
  · replace h := ie c1 h
    exact m_vret S hr hlk hM hS h dX6_asks_24
  replace h := it c1 h
  refine lv_aload_n hx hb dX6_asks_7 rfl (lv_at hl 0 rfl) ?_
  refine lv_aload_n hx hb dX6_asks_8 rfl (lv_at hl 1 rfl) ?_
  replace h := ob h
  obtain ⟨x2, hx2, h⟩ := h
  refine kX6_takes S hK hM hS hx2 ⟨Nat.le_of_ble_eq_true rfl, Nat.le_of_ble_eq_true rfl⟩ hl.1 (Nat.le_of_ble_eq_true rfl) dX6_asks_9 (fun H locs hM hS => ?_)
  refine lv_if_ne (tgt := 24) hx hb dX6_asks_12 (by decide) (fun c3 => ?_) (fun c3 => ?_)
  · replace h := ie c3 h
    exact m_vret S hr hlk hM hS h dX6_asks_24
  replace h := it c3 h
  refine lv_aload_n hx hb dX6_asks_15 rfl (lv_at hl 0 rfl) ?_
  refine lv_iconst (v := (1 : Int32)) hx hb dX6_asks_16 (by decide) ?_
  refine lv_aload_n hx hb dX6_asks_17 rfl (lv_at hl 0 rfl) ?_
  refine m_get S hK hM 2 (Nat.le_of_ble_eq_true rfl) q1734 (v := .int (x2.1.1 2)) rfl dX6_asks_18 ?_
  replace h := ob h
  obtain ⟨x4, hx4, h⟩ := h
  refine kX6_fail S hK hM hS hx4 ⟨Nat.le_of_ble_eq_true rfl, Nat.le_of_ble_eq_true rfl⟩ hl.1 (Nat.le_of_ble_eq_true rfl) dX6_asks_21 (fun H locs hM hS => ?_)
  exact m_vret S hr hlk hM hS h dX6_asks_24
theorem kX6_asks {p : Program} {l : Launch} {e : Env} {R : Room} {s : State} {m : MethodId} {args : Array Value} {below : List Frame} {meth : Method} {c : Code} {H H0 : Heap} {locs : List Loc} {Q : State → Prop} {cc : ByteArray} {nL pc : Nat} {ls : Array Slot} {rest : List Value} {G : mG} {b : Nat} {σ : MS} {a1 : Nat} {x : MS} (S : CallFix p m c cc nL s args lw_all RX6) (hK : mK G s) (hM : MW G b σ H) (hS : va_S (mB b) H0 H locs) (hf : fX6_asks σ a1 = some x) (hR : rmX6_asks.frames + 1 ≤ R.frames ∧ 8 + (2 + 11) + rmX6_asks.locals ≤ R.locals) (hsize : ls.size = nL) (hr : (rest.map fun v => v.category).sum ≤ 8) (hdg : decode cc pc = .ok (.invokevirtual 323, 3)) (kk : ∀ (H1 : Heap) (locs1 : List Loc), MW G b x H1 → va_S (mB b) H0 H1 locs1 → W p l e R s m args below meth c H1 locs1 0 0 Q (F0 m (pc + 3) ls (rest))) : W p l e R s m args below meth c H locs 0 0 Q (F0 m pc ls (.ref (ma b a1) :: .ref b :: rest)) :=
  m_cVv (As := [.ref (ma b a1)]) S hK hM hS (metX6_asks hf) (cwV 1 S.2.2.2.2 (lw_V q2111 q2113 qs78 q179 q2114) rfl rfl rfl (by decide +kernel) hR) ⟨Nat.zero_le _, Nat.zero_le _⟩ rfl hsize rfl hr hdg kk
/-! takesSign(I)Z -/
abbrev rmX6_takesSign : Room := { frames := 2, cells := 0, slots := 0, locals := 20 }
def fX6_takesSign (σ : MS) (a1 : Int32) : Option (MS × Int32) :=
  if (σ.1 5) = 0 then
    (fX6_look σ).bind fun x2 =>
    if x2.2 = a1 then
      some ((sI x2.1 2 ((x2.1.1 2) + (1 : Int32))), (1 : Int32))
    else
    some (x2.1, (0 : Int32))
  else
  some (σ, (0 : Int32))
set_option maxHeartbeats 4000000 in
theorem metX6_takesSign {l : Launch} {G : mG} {b : Nat} {σ : MS} {a1 : Int32} {x : MS × Int32} (h : fX6_takesSign σ a1 = some x) : Met l yX6_takesSign (ws_ yX6_takesSign cX6_takesSign 2 (some .boolean)) rmX6_takesSign (mP G b σ [.ref b, .int a1]) (mQi G b x) 0 0 (mB b) := by
  refine m_entry (by decide) rfl (Nat.le_of_ble_eq_true rfl) ?_
  intro p e s m below meth c S hr hlk hK hM hS ls hl
  replace hl : lv_has ls 2 [(0, .ref b), (1, .int a1)] := hl
  obtain ⟨hx, hb, hml, hown, hts⟩ := id S
  unfold fX6_takesSign at h
  refine lv_aload_n hx hb dX6_takesSign_0 rfl (lv_at hl 0 rfl) ?_
  refine m_get S hK hM 5 (Nat.le_of_ble_eq_true rfl) q1737 (v := .int (σ.1 5)) rfl dX6_takesSign_1 ?_
  refine lv_if_ne (tgt := 15) hx hb dX6_takesSign_4 (by decide) (fun c1 => ?_) (fun c1 => ?_)
  · replace h := ie c1 h
    refine lv_iconst (v := (0 : Int32)) hx hb dX6_takesSign_15 (by decide) ?_
    exact m_iret S hr hlk rfl hM hS h dX6_takesSign_16
  replace h := it c1 h
  refine lv_aload_n hx hb dX6_takesSign_7 rfl (lv_at hl 0 rfl) ?_
  replace h := ob h
  obtain ⟨x2, hx2, h⟩ := h
  refine kX6_look S hK hM hS hx2 ⟨Nat.le_of_ble_eq_true rfl, Nat.le_of_ble_eq_true rfl⟩ hl.1 (Nat.le_of_ble_eq_true rfl) dX6_takesSign_8 (fun H locs hM hS => ?_)
  refine lv_iload_n hx hb dX6_takesSign_11 rfl (lv_at hl 1 rfl) ?_
  refine lv_icmp_eq (tgt := 17) hx hb dX6_takesSign_12 (by decide) (fun c3 => ?_) (fun c3 => ?_)
  rotate_left 1
  · replace h := ie c3 h
    refine lv_iconst (v := (0 : Int32)) hx hb dX6_takesSign_15 (by decide) ?_
    exact m_iret S hr hlk rfl hM hS h dX6_takesSign_16
  replace h := it c3 h
  refine lv_aload_n hx hb dX6_takesSign_17 rfl (lv_at hl 0 rfl) ?_
  refine lv_dup hx hb dX6_takesSign_18 rfl ?_
  refine m_get S hK hM 2 (Nat.le_of_ble_eq_true rfl) q1734 (v := .int (x2.1.1 2)) rfl dX6_takesSign_19 ?_
  refine lv_iconst (v := (1 : Int32)) hx hb dX6_takesSign_22 (by decide) ?_
  refine lv_iadd hx hb dX6_takesSign_23 ?_
  refine m_putI S hK hM hS 2 (Nat.le_of_ble_eq_true rfl) rfl q1734 rfl (ty := .int) rfl rfl rfl dX6_takesSign_24 (fun H locs hM hS => ?_)
  refine lv_iconst (v := (1 : Int32)) hx hb dX6_takesSign_27 (by decide) ?_
  exact m_iret S hr hlk rfl hM hS h dX6_takesSign_28
theorem kX6_takesSign {p : Program} {l : Launch} {e : Env} {R : Room} {s : State} {m : MethodId} {args : Array Value} {below : List Frame} {meth : Method} {c : Code} {H H0 : Heap} {locs : List Loc} {Q : State → Prop} {cc : ByteArray} {nL pc : Nat} {ls : Array Slot} {rest : List Value} {G : mG} {b : Nat} {σ : MS} {a1 : Int32} {x : MS × Int32} (S : CallFix p m c cc nL s args lw_all RX6) (hK : mK G s) (hM : MW G b σ H) (hS : va_S (mB b) H0 H locs) (hf : fX6_takesSign σ a1 = some x) (hR : rmX6_takesSign.frames + 1 ≤ R.frames ∧ 8 + (2 + 11) + rmX6_takesSign.locals ≤ R.locals) (hsize : ls.size = nL) (hr : (rest.map fun v => v.category).sum ≤ 8) (hdg : decode cc pc = .ok (.invokevirtual 276, 3)) (kk : ∀ (H1 : Heap) (locs1 : List Loc), MW G b x.1 H1 → va_S (mB b) H0 H1 locs1 → W p l e R s m args below meth c H1 locs1 0 0 Q (F0 m (pc + 3) ls (.int x.2 :: rest))) : W p l e R s m args below meth c H locs 0 0 Q (F0 m pc ls (.int a1 :: .ref b :: rest)) :=
  m_cVi (As := [.int a1]) S hK hM hS (metX6_takesSign hf) (cwV 1 S.2.2.2.2 (lw_V q2187 q2189 qs95 q179 q2190) rfl rfl rfl (by decide +kernel) hR) ⟨Nat.zero_le _, Nat.zero_le _⟩ rfl hsize rfl hr hdg kk
/-! asksSign(I)V -/
abbrev rmX6_asksSign : Room := { frames := 3, cells := 0, slots := 0, locals := 41 }
def fX6_asksSign (σ : MS) (a1 : Int32) : Option (MS) :=
  if (σ.1 5) = 0 then
    (fX6_takesSign σ a1).bind fun x2 =>
    if x2.2 = 0 then
      (fX6_fail x2.1 (1 : Int32) (x2.1.1 2)).bind fun x4 =>
      some x4
    else
    some x2.1
  else
  some σ
set_option maxHeartbeats 4000000 in
theorem metX6_asksSign {l : Launch} {G : mG} {b : Nat} {σ : MS} {a1 : Int32} {x : MS} (h : fX6_asksSign σ a1 = some x) : Met l yX6_asksSign (ws_ yX6_asksSign cX6_asksSign 2 (none)) rmX6_asksSign (mP G b σ [.ref b, .int a1]) (mQv G b x) 0 0 (mB b) := by
  refine m_entry (by decide) rfl (Nat.le_of_ble_eq_true rfl) ?_
  intro p e s m below meth c S hr hlk hK hM hS ls hl
  replace hl : lv_has ls 2 [(0, .ref b), (1, .int a1)] := hl
  obtain ⟨hx, hb, hml, hown, hts⟩ := id S
  unfold fX6_asksSign at h
  refine lv_aload_n hx hb dX6_asksSign_0 rfl (lv_at hl 0 rfl) ?_
  refine m_get S hK hM 5 (Nat.le_of_ble_eq_true rfl) q1737 (v := .int (σ.1 5)) rfl dX6_asksSign_1 ?_
  refine lv_if_ne (tgt := 24) hx hb dX6_asksSign_4 (by decide) (fun c1 => ?_) (fun c1 => ?_)
  · replace h := ie c1 h
    exact m_vret S hr hlk hM hS h dX6_asksSign_24
  replace h := it c1 h
  refine lv_aload_n hx hb dX6_asksSign_7 rfl (lv_at hl 0 rfl) ?_
  refine lv_iload_n hx hb dX6_asksSign_8 rfl (lv_at hl 1 rfl) ?_
  replace h := ob h
  obtain ⟨x2, hx2, h⟩ := h
  refine kX6_takesSign S hK hM hS hx2 ⟨Nat.le_of_ble_eq_true rfl, Nat.le_of_ble_eq_true rfl⟩ hl.1 (Nat.le_of_ble_eq_true rfl) dX6_asksSign_9 (fun H locs hM hS => ?_)
  refine lv_if_ne (tgt := 24) hx hb dX6_asksSign_12 (by decide) (fun c3 => ?_) (fun c3 => ?_)
  · replace h := ie c3 h
    exact m_vret S hr hlk hM hS h dX6_asksSign_24
  replace h := it c3 h
  refine lv_aload_n hx hb dX6_asksSign_15 rfl (lv_at hl 0 rfl) ?_
  refine lv_iconst (v := (1 : Int32)) hx hb dX6_asksSign_16 (by decide) ?_
  refine lv_aload_n hx hb dX6_asksSign_17 rfl (lv_at hl 0 rfl) ?_
  refine m_get S hK hM 2 (Nat.le_of_ble_eq_true rfl) q1734 (v := .int (x2.1.1 2)) rfl dX6_asksSign_18 ?_
  replace h := ob h
  obtain ⟨x4, hx4, h⟩ := h
  refine kX6_fail S hK hM hS hx4 ⟨Nat.le_of_ble_eq_true rfl, Nat.le_of_ble_eq_true rfl⟩ hl.1 (Nat.le_of_ble_eq_true rfl) dX6_asksSign_21 (fun H locs hM hS => ?_)
  exact m_vret S hr hlk hM hS h dX6_asksSign_24
theorem kX6_asksSign {p : Program} {l : Launch} {e : Env} {R : Room} {s : State} {m : MethodId} {args : Array Value} {below : List Frame} {meth : Method} {c : Code} {H H0 : Heap} {locs : List Loc} {Q : State → Prop} {cc : ByteArray} {nL pc : Nat} {ls : Array Slot} {rest : List Value} {G : mG} {b : Nat} {σ : MS} {a1 : Int32} {x : MS} (S : CallFix p m c cc nL s args lw_all RX6) (hK : mK G s) (hM : MW G b σ H) (hS : va_S (mB b) H0 H locs) (hf : fX6_asksSign σ a1 = some x) (hR : rmX6_asksSign.frames + 1 ≤ R.frames ∧ 8 + (2 + 11) + rmX6_asksSign.locals ≤ R.locals) (hsize : ls.size = nL) (hr : (rest.map fun v => v.category).sum ≤ 8) (hdg : decode cc pc = .ok (.invokevirtual 381, 3)) (kk : ∀ (H1 : Heap) (locs1 : List Loc), MW G b x H1 → va_S (mB b) H0 H1 locs1 → W p l e R s m args below meth c H1 locs1 0 0 Q (F0 m (pc + 3) ls (rest))) : W p l e R s m args below meth c H locs 0 0 Q (F0 m pc ls (.int a1 :: .ref b :: rest)) :=
  m_cVv (As := [.int a1]) S hK hM hS (metX6_asksSign hf) (cwV 1 S.2.2.2.2 (lw_V q2183 q2185 qs94 q179 q2186) rfl rfl rfl (by decide +kernel) hR) ⟨Nat.zero_le _, Nat.zero_le _⟩ rfl hsize rfl hr hdg kk
/-! qCode(I)V -/
abbrev rmX6_qCode : Room := { frames := 1, cells := 0, slots := 0, locals := 0 }
def fX6_qCode (σ : MS) (a1 : Int32) : Option (MS) :=
  (tI σ 91 (σ.1 92) a1).bind fun σ1 =>
  some (sI σ1 92 ((σ1.1 92) + (1 : Int32)))
set_option maxHeartbeats 4000000 in
theorem metX6_qCode {l : Launch} {G : mG} {b : Nat} {σ : MS} {a1 : Int32} {x : MS} (h : fX6_qCode σ a1 = some x) : Met l yX6_qCode (ws_ yX6_qCode cX6_qCode 2 (none)) rmX6_qCode (mP G b σ [.ref b, .int a1]) (mQv G b x) 0 0 (mB b) := by
  refine m_entry (by decide) rfl (Nat.le_of_ble_eq_true rfl) ?_
  intro p e s m below meth c S hr hlk hK hM hS ls hl
  replace hl : lv_has ls 2 [(0, .ref b), (1, .int a1)] := hl
  obtain ⟨hx, hb, hml, hown, hts⟩ := id S
  unfold fX6_qCode at h
  refine lv_aload_n hx hb dX6_qCode_0 rfl (lv_at hl 0 rfl) ?_
  refine m_get S hK hM 91 (Nat.le_of_ble_eq_true rfl) q1823 (v := .ref (ma b 91)) rfl dX6_qCode_1 ?_
  refine lv_aload_n hx hb dX6_qCode_4 rfl (lv_at hl 0 rfl) ?_
  refine m_get S hK hM 92 (Nat.le_of_ble_eq_true rfl) q1824 (v := .int (σ.1 92)) rfl dX6_qCode_5 ?_
  refine lv_iload_n hx hb dX6_qCode_8 rfl (lv_at hl 1 rfl) ?_
  replace h := ob h
  obtain ⟨σ1, hσ1, h⟩ := h
  refine m_iast S hK hM hS 91 rfl hσ1 dX6_qCode_9 (fun H locs hM hS => ?_)
  refine lv_aload_n hx hb dX6_qCode_10 rfl (lv_at hl 0 rfl) ?_
  refine lv_dup hx hb dX6_qCode_11 rfl ?_
  refine m_get S hK hM 92 (Nat.le_of_ble_eq_true rfl) q1824 (v := .int (σ1.1 92)) rfl dX6_qCode_12 ?_
  refine lv_iconst (v := (1 : Int32)) hx hb dX6_qCode_15 (by decide) ?_
  refine lv_iadd hx hb dX6_qCode_16 ?_
  refine m_putI S hK hM hS 92 (Nat.le_of_ble_eq_true rfl) rfl q1824 rfl (ty := .int) rfl rfl rfl dX6_qCode_17 (fun H locs hM hS => ?_)
  exact m_vret S hr hlk hM hS h dX6_qCode_20
theorem kX6_qCode {p : Program} {l : Launch} {e : Env} {R : Room} {s : State} {m : MethodId} {args : Array Value} {below : List Frame} {meth : Method} {c : Code} {H H0 : Heap} {locs : List Loc} {Q : State → Prop} {cc : ByteArray} {nL pc : Nat} {ls : Array Slot} {rest : List Value} {G : mG} {b : Nat} {σ : MS} {a1 : Int32} {x : MS} (S : CallFix p m c cc nL s args lw_all RX6) (hK : mK G s) (hM : MW G b σ H) (hS : va_S (mB b) H0 H locs) (hf : fX6_qCode σ a1 = some x) (hR : rmX6_qCode.frames + 1 ≤ R.frames ∧ 8 + (2 + 11) + rmX6_qCode.locals ≤ R.locals) (hsize : ls.size = nL) (hr : (rest.map fun v => v.category).sum ≤ 8) (hdg : decode cc pc = .ok (.invokevirtual 595, 3)) (kk : ∀ (H1 : Heap) (locs1 : List Loc), MW G b x H1 → va_S (mB b) H0 H1 locs1 → W p l e R s m args below meth c H1 locs1 0 0 Q (F0 m (pc + 3) ls (rest))) : W p l e R s m args below meth c H locs 0 0 Q (F0 m pc ls (.int a1 :: .ref b :: rest)) :=
  m_cVv (As := [.int a1]) S hK hM hS (metX6_qCode hf) (cwV 1 S.2.2.2.2 (lw_V q2157 q2159 qs88 q179 q2160) rfl rfl rfl (by decide +kernel) hR) ⟨Nat.zero_le _, Nat.zero_le _⟩ rfl hsize rfl hr hdg kk
/-! qDrops()V -/
abbrev rmX6_qDrops : Room := { frames := 2, cells := 0, slots := 0, locals := 21 }
def fX6_qDrops (σ : MS) : Option (MS) :=
  (aI (sI σ 94 ((σ.1 94) - (1 : Int32))) 93 ((sI σ 94 ((σ.1 94) - (1 : Int32))).1 94)).bind fun v1 =>
  (fX6_qCode (sI σ 94 ((σ.1 94) - (1 : Int32))) v1).bind fun x2 =>
  some x2
set_option maxHeartbeats 4000000 in
theorem metX6_qDrops {l : Launch} {G : mG} {b : Nat} {σ : MS} {x : MS} (h : fX6_qDrops σ = some x) : Met l yX6_qDrops (ws_ yX6_qDrops cX6_qDrops 1 (none)) rmX6_qDrops (mP G b σ [.ref b]) (mQv G b x) 0 0 (mB b) := by
  refine m_entry (by decide) rfl (Nat.le_of_ble_eq_true rfl) ?_
  intro p e s m below meth c S hr hlk hK hM hS ls hl
  replace hl : lv_has ls 1 [(0, .ref b)] := hl
  obtain ⟨hx, hb, hml, hown, hts⟩ := id S
  unfold fX6_qDrops at h
  refine lv_aload_n hx hb dX6_qDrops_0 rfl (lv_at hl 0 rfl) ?_
  refine lv_dup hx hb dX6_qDrops_1 rfl ?_
  refine m_get S hK hM 94 (Nat.le_of_ble_eq_true rfl) q1826 (v := .int (σ.1 94)) rfl dX6_qDrops_2 ?_
  refine lv_iconst (v := (1 : Int32)) hx hb dX6_qDrops_5 (by decide) ?_
  refine lv_isub hx hb dX6_qDrops_6 ?_
  refine m_putI S hK hM hS 94 (Nat.le_of_ble_eq_true rfl) rfl q1826 rfl (ty := .int) rfl rfl rfl dX6_qDrops_7 (fun H locs hM hS => ?_)
  refine lv_aload_n hx hb dX6_qDrops_10 rfl (lv_at hl 0 rfl) ?_
  refine lv_aload_n hx hb dX6_qDrops_11 rfl (lv_at hl 0 rfl) ?_
  refine m_get S hK hM 93 (Nat.le_of_ble_eq_true rfl) q1825 (v := .ref (ma b 93)) rfl dX6_qDrops_12 ?_
  refine lv_aload_n hx hb dX6_qDrops_15 rfl (lv_at hl 0 rfl) ?_
  refine m_get S hK hM 94 (Nat.le_of_ble_eq_true rfl) q1826 (v := .int ((sI σ 94 ((σ.1 94) - (1 : Int32))).1 94)) rfl dX6_qDrops_16 ?_
  replace h := ob h
  obtain ⟨v1, hv1, h⟩ := h
  refine m_iald S hK hM 93 rfl hv1 dX6_qDrops_19 ?_
  replace h := ob h
  obtain ⟨x2, hx2, h⟩ := h
  refine kX6_qCode S hK hM hS hx2 ⟨Nat.le_of_ble_eq_true rfl, Nat.le_of_ble_eq_true rfl⟩ hl.1 (Nat.le_of_ble_eq_true rfl) dX6_qDrops_20 (fun H locs hM hS => ?_)
  exact m_vret S hr hlk hM hS h dX6_qDrops_23
theorem kX6_qDrops {p : Program} {l : Launch} {e : Env} {R : Room} {s : State} {m : MethodId} {args : Array Value} {below : List Frame} {meth : Method} {c : Code} {H H0 : Heap} {locs : List Loc} {Q : State → Prop} {cc : ByteArray} {nL pc : Nat} {ls : Array Slot} {rest : List Value} {G : mG} {b : Nat} {σ : MS} {x : MS} (S : CallFix p m c cc nL s args lw_all RX6) (hK : mK G s) (hM : MW G b σ H) (hS : va_S (mB b) H0 H locs) (hf : fX6_qDrops σ = some x) (hR : rmX6_qDrops.frames + 1 ≤ R.frames ∧ 8 + (1 + 11) + rmX6_qDrops.locals ≤ R.locals) (hsize : ls.size = nL) (hr : (rest.map fun v => v.category).sum ≤ 8) (hdg : decode cc pc = .ok (.invokevirtual 601, 3)) (kk : ∀ (H1 : Heap) (locs1 : List Loc), MW G b x H1 → va_S (mB b) H0 H1 locs1 → W p l e R s m args below meth c H1 locs1 0 0 Q (F0 m (pc + 3) ls (rest))) : W p l e R s m args below meth c H locs 0 0 Q (F0 m pc ls (.ref b :: rest)) :=
  m_cVv (As := []) S hK hM hS (metX6_qDrops hf) (cwV 0 S.2.2.2.2 (lw_V q2199 q2201 qs98 q179 q2202) rfl rfl rfl (by decide +kernel) hR) ⟨Nat.zero_le _, Nat.zero_le _⟩ rfl hsize rfl hr hdg kk
/-! qIsBracket(I)Z -/
abbrev rmX6_qIsBracket : Room := { frames := 1, cells := 0, slots := 0, locals := 0 }
def fX6_qIsBracket (σ : MS) (a0 : Int32) : Option (Int32) :=
  if a0 < (20 : Int32) then
    some (0 : Int32)
  else
  if (24 : Int32) < a0 then
    some (0 : Int32)
  else
  some (1 : Int32)
set_option maxHeartbeats 4000000 in
theorem metX6_qIsBracket {l : Launch} {G : mG} {b : Nat} {σ : MS} {a0 : Int32} {x : Int32} (h : fX6_qIsBracket σ a0 = some x) : Met l yX6_qIsBracket (ws_ yX6_qIsBracket cX6_qIsBracket 1 (some .boolean)) rmX6_qIsBracket (mP G b σ [.int a0]) (mQi G b (σ, x)) 0 0 (mB b) := by
  refine m_entry (by decide) rfl (Nat.le_of_ble_eq_true rfl) ?_
  intro p e s m below meth c S hr hlk hK hM hS ls hl
  replace hl : lv_has ls 1 [(0, .int a0)] := hl
  obtain ⟨hx, hb, hml, hown, hts⟩ := id S
  unfold fX6_qIsBracket at h
  refine lv_iload_n hx hb dX6_qIsBracket_0 rfl (lv_at hl 0 rfl) ?_
  refine lv_bipush (v := (20 : Int32)) hx hb dX6_qIsBracket_1 (by decide) ?_
  refine lv_icmp_lt (tgt := 16) hx hb dX6_qIsBracket_3 (by decide) (fun c1 => ?_) (fun c1 => ?_)
  · replace h := it c1 h
    refine lv_iconst (v := (0 : Int32)) hx hb dX6_qIsBracket_16 (by decide) ?_
    exact m_iret' S hr hlk rfl hM hS h dX6_qIsBracket_17
  replace h := ie c1 h
  refine lv_iload_n hx hb dX6_qIsBracket_6 rfl (lv_at hl 0 rfl) ?_
  refine lv_bipush (v := (24 : Int32)) hx hb dX6_qIsBracket_7 (by decide) ?_
  refine lv_icmp_gt (tgt := 16) hx hb dX6_qIsBracket_9 (by decide) (fun c2 => ?_) (fun c2 => ?_)
  · replace h := it c2 h
    refine lv_iconst (v := (0 : Int32)) hx hb dX6_qIsBracket_16 (by decide) ?_
    exact m_iret' S hr hlk rfl hM hS h dX6_qIsBracket_17
  replace h := ie c2 h
  refine lv_iconst (v := (1 : Int32)) hx hb dX6_qIsBracket_12 (by decide) ?_
  refine lv_goto (tgt := 17) hx hb dX6_qIsBracket_13 (by decide) ?_
  exact m_iret' S hr hlk rfl hM hS h dX6_qIsBracket_17
theorem kX6_qIsBracket {p : Program} {l : Launch} {e : Env} {R : Room} {s : State} {m : MethodId} {args : Array Value} {below : List Frame} {meth : Method} {c : Code} {H H0 : Heap} {locs : List Loc} {Q : State → Prop} {cc : ByteArray} {nL pc : Nat} {ls : Array Slot} {rest : List Value} {G : mG} {b : Nat} {σ : MS} {a0 : Int32} {x : Int32} (S : CallFix p m c cc nL s args lw_all RX6) (hK : mK G s) (hM : MW G b σ H) (hS : va_S (mB b) H0 H locs) (hf : fX6_qIsBracket σ a0 = some x) (hR : rmX6_qIsBracket.frames + 1 ≤ R.frames ∧ 8 + (1 + 11) + rmX6_qIsBracket.locals ≤ R.locals) (hsize : ls.size = nL) (hr : (rest.map fun v => v.category).sum ≤ 8) (hdg : decode cc pc = .ok (.invokestatic 598, 3)) (kk : ∀ (H1 : Heap) (locs1 : List Loc), MW G b σ H1 → va_S (mB b) H0 H1 locs1 → W p l e R s m args below meth c H1 locs1 0 0 Q (F0 m (pc + 3) ls (.int x :: rest))) : W p l e R s m args below meth c H locs 0 0 Q (F0 m pc ls (.int a0 :: rest)) :=
  m_cSi (As := [.int a0]) S hK hM hS (metX6_qIsBracket hf) (va_cwS 1 S.2.2.2.2 (lw_S q2211 q2212 q179 q2213) rfl rfl rfl (by decide +kernel) hR) ⟨Nat.zero_le _, Nat.zero_le _⟩ rfl hsize rfl hr hdg kk
/-! qBracket()I -/
abbrev rmX6_qBracket : Room := { frames := 2, cells := 0, slots := 0, locals := 20 }
def fX6_qBracket_33 (σ : MS) (a1 : Int32) : Option (Int32) :=
  if a1 < (σ.1 96) then
    some (-1 : Int32)
  else
  (aI σ 93 a1).bind fun v2 =>
  some v2
def fX6_qBracket_7 (σ : MS) : Nat → Int32 → Option (Int32)
  | 0, _ => none
  | n + 1, a1 =>
    if a1 < (σ.1 96) then
      fX6_qBracket_33 σ a1
    else
    (aI σ 93 a1).bind fun v2 =>
    (fX6_qIsBracket σ v2).bind fun x3 =>
    if x3 = 0 then
      fX6_qBracket_7 σ n (a1 + (-1 : Int32))
    else
    fX6_qBracket_33 σ a1
def fX6_qBracket (σ : MS) : Option (Int32) :=
  fX6_qBracket_7 σ FU ((σ.1 94) - (1 : Int32))
set_option maxHeartbeats 4000000 in
theorem wX6_qBracket_33 {p : Program} {l : Launch} {e : Env} {s : State} {m : MethodId} {args : Array Value} {below : List Frame} {meth : Method} {c : Code} {G : mG} {b : Nat} {σ : MS} (S : CallFix p m c cX6_qBracket 2 s args lw_all RX6) (hr : meth.sig.returnType = some .int) (hlk : meth.locks = false) (hK : mK G s) {x : Int32} : ∀ (a1 : Int32), fX6_qBracket_33 σ a1 = some x → mGo p l e rmX6_qBracket s m args below meth c G b (MQ below (mQi G b (σ, x)) args s 0 0 (mB b)) 2 33 [(0, .ref b), (1, .int a1)] [] σ := by
  obtain ⟨hx, hb, hml, hown, hts⟩ := id S
  intro a1 h H locs hM hS ls hl
  unfold fX6_qBracket_33 at h
  refine lv_iload_n hx hb dX6_qBracket_33 rfl (lv_at hl 1 rfl) ?_
  refine lv_aload_n hx hb dX6_qBracket_34 rfl (lv_at hl 0 rfl) ?_
  refine m_get S hK hM 96 (Nat.le_of_ble_eq_true rfl) q1828 (v := .int (σ.1 96)) rfl dX6_qBracket_35 ?_
  refine lv_icmp_lt (tgt := 50) hx hb dX6_qBracket_38 (by decide) (fun c1 => ?_) (fun c1 => ?_)
  · replace h := it c1 h
    refine lv_iconst (v := (-1 : Int32)) hx hb dX6_qBracket_50 (by decide) ?_
    exact m_iret' S hr hlk rfl hM hS h dX6_qBracket_51
  replace h := ie c1 h
  refine lv_aload_n hx hb dX6_qBracket_41 rfl (lv_at hl 0 rfl) ?_
  refine m_get S hK hM 93 (Nat.le_of_ble_eq_true rfl) q1825 (v := .ref (ma b 93)) rfl dX6_qBracket_42 ?_
  refine lv_iload_n hx hb dX6_qBracket_45 rfl (lv_at hl 1 rfl) ?_
  replace h := ob h
  obtain ⟨v2, hv2, h⟩ := h
  refine m_iald S hK hM 93 rfl hv2 dX6_qBracket_46 ?_
  refine lv_goto (tgt := 51) hx hb dX6_qBracket_47 (by decide) ?_
  exact m_iret' S hr hlk rfl hM hS h dX6_qBracket_51
set_option maxHeartbeats 4000000 in
theorem wX6_qBracket_7 {p : Program} {l : Launch} {e : Env} {s : State} {m : MethodId} {args : Array Value} {below : List Frame} {meth : Method} {c : Code} {G : mG} {b : Nat} {σ : MS} (S : CallFix p m c cX6_qBracket 2 s args lw_all RX6) (hr : meth.sig.returnType = some .int) (hlk : meth.locks = false) (hK : mK G s) {x : Int32} : ∀ (n : Nat) (a1 : Int32), fX6_qBracket_7 σ n a1 = some x → mGo p l e rmX6_qBracket s m args below meth c G b (MQ below (mQi G b (σ, x)) args s 0 0 (mB b)) 2 7 [(0, .ref b), (1, .int a1)] [] σ := by
  obtain ⟨hx, hb, hml, hown, hts⟩ := id S
  intro n
  induction n with
  | zero => intro a1 h; cases h
  | succ n ih =>
    intro a1 h H locs hM hS ls hl
    rw [fX6_qBracket_7] at h
    refine lv_iload_n hx hb dX6_qBracket_7 rfl (lv_at hl 1 rfl) ?_
    refine lv_aload_n hx hb dX6_qBracket_8 rfl (lv_at hl 0 rfl) ?_
    refine m_get S hK hM 96 (Nat.le_of_ble_eq_true rfl) q1828 (v := .int (σ.1 96)) rfl dX6_qBracket_9 ?_
    refine lv_icmp_lt (tgt := 33) hx hb dX6_qBracket_12 (by decide) (fun c1 => ?_) (fun c1 => ?_)
    · replace h := it c1 h
      exact wX6_qBracket_33 S hr hlk hK a1 h _ _ hM hS _ (lv_sub hl [0, 1] rfl)
    replace h := ie c1 h
    refine lv_aload_n hx hb dX6_qBracket_15 rfl (lv_at hl 0 rfl) ?_
    refine m_get S hK hM 93 (Nat.le_of_ble_eq_true rfl) q1825 (v := .ref (ma b 93)) rfl dX6_qBracket_16 ?_
    refine lv_iload_n hx hb dX6_qBracket_19 rfl (lv_at hl 1 rfl) ?_
    replace h := ob h
    obtain ⟨v2, hv2, h⟩ := h
    refine m_iald S hK hM 93 rfl hv2 dX6_qBracket_20 ?_
    replace h := ob h
    obtain ⟨x3, hx3, h⟩ := h
    refine kX6_qIsBracket S hK hM hS hx3 ⟨Nat.le_of_ble_eq_true rfl, Nat.le_of_ble_eq_true rfl⟩ hl.1 (Nat.le_of_ble_eq_true rfl) dX6_qBracket_21 (fun H locs hM hS => ?_)
    refine lv_if_ne (tgt := 33) hx hb dX6_qBracket_24 (by decide) (fun c4 => ?_) (fun c4 => ?_)
    · replace h := ie c4 h
      exact wX6_qBracket_33 S hr hlk hK a1 h _ _ hM hS _ (lv_sub hl [0, 1] rfl)
    replace h := it c4 h
    refine lv_iinc (v := (a1 + (-1 : Int32))) (lv' := [(1, .int (a1 + (-1 : Int32))), (0, .ref b)]) hx hb dX6_qBracket_27 hl (k := 1) rfl rfl (by decide) rfl (fun ls hl => ?_)
    refine lv_goto (tgt := 7) hx hb dX6_qBracket_30 (by decide) ?_
    exact ih (a1 + (-1 : Int32)) h _ _ hM hS _ (lv_sub hl [1, 0] rfl)
set_option maxHeartbeats 4000000 in
theorem metX6_qBracket {l : Launch} {G : mG} {b : Nat} {σ : MS} {x : Int32} (h : fX6_qBracket σ = some x) : Met l yX6_qBracket (ws_ yX6_qBracket cX6_qBracket 2 (some .int)) rmX6_qBracket (mP G b σ [.ref b]) (mQi G b (σ, x)) 0 0 (mB b) := by
  refine m_entry (by decide) rfl (Nat.le_of_ble_eq_true rfl) ?_
  intro p e s m below meth c S hr hlk hK hM hS ls hl
  replace hl : lv_has ls 2 [(0, .ref b)] := hl
  obtain ⟨hx, hb, hml, hown, hts⟩ := id S
  unfold fX6_qBracket at h
  refine lv_aload_n hx hb dX6_qBracket_0 rfl (lv_at hl 0 rfl) ?_
  refine m_get S hK hM 94 (Nat.le_of_ble_eq_true rfl) q1826 (v := .int (σ.1 94)) rfl dX6_qBracket_1 ?_
  refine lv_iconst (v := (1 : Int32)) hx hb dX6_qBracket_4 (by decide) ?_
  refine lv_isub hx hb dX6_qBracket_5 ?_
  refine lv_istore_n (lv' := [(1, .int ((σ.1 94) - (1 : Int32))), (0, .ref b)]) hx hb dX6_qBracket_6 rfl hl (by decide) rfl (fun ls hl => ?_)
  exact wX6_qBracket_7 S hr hlk hK FU ((σ.1 94) - (1 : Int32)) h _ _ hM hS _ (lv_sub hl [1, 0] rfl)
theorem kX6_qBracket {p : Program} {l : Launch} {e : Env} {R : Room} {s : State} {m : MethodId} {args : Array Value} {below : List Frame} {meth : Method} {c : Code} {H H0 : Heap} {locs : List Loc} {Q : State → Prop} {cc : ByteArray} {nL pc : Nat} {ls : Array Slot} {rest : List Value} {G : mG} {b : Nat} {σ : MS} {x : Int32} (S : CallFix p m c cc nL s args lw_all RX6) (hK : mK G s) (hM : MW G b σ H) (hS : va_S (mB b) H0 H locs) (hf : fX6_qBracket σ = some x) (hR : rmX6_qBracket.frames + 1 ≤ R.frames ∧ 8 + (2 + 11) + rmX6_qBracket.locals ≤ R.locals) (hsize : ls.size = nL) (hr : (rest.map fun v => v.category).sum ≤ 8) (hdg : decode cc pc = .ok (.invokevirtual 622, 3)) (kk : ∀ (H1 : Heap) (locs1 : List Loc), MW G b σ H1 → va_S (mB b) H0 H1 locs1 → W p l e R s m args below meth c H1 locs1 0 0 Q (F0 m (pc + 3) ls (.int x :: rest))) : W p l e R s m args below meth c H locs 0 0 Q (F0 m pc ls (.ref b :: rest)) :=
  m_cVi (As := []) S hK hM hS (metX6_qBracket hf) (cwV 0 S.2.2.2.2 (lw_V q2207 q2209 qs100 q179 q2210) rfl rfl rfl (by decide +kernel) hR) ⟨Nat.zero_le _, Nat.zero_le _⟩ rfl hsize rfl hr hdg kk
/-! qDropsToBracket()V -/
abbrev rmX6_qDropsToBracket : Room := { frames := 3, cells := 0, slots := 0, locals := 41 }
def fX6_qDropsToBracket_0 : Nat → MS → Option (MS)
  | 0, _ => none
  | n + 1, σ =>
    if (σ.1 94) ≤ (σ.1 96) then
      some σ
    else
    (aI σ 93 ((σ.1 94) - (1 : Int32))).bind fun v2 =>
    (fX6_qIsBracket σ v2).bind fun x3 =>
    if x3 = 0 then
      (fX6_qDrops σ).bind fun x5 =>
      fX6_qDropsToBracket_0 n x5
    else
    some σ
def fX6_qDropsToBracket (σ : MS) : Option (MS) :=
  fX6_qDropsToBracket_0 FU σ
set_option maxHeartbeats 4000000 in
theorem wX6_qDropsToBracket_0 {p : Program} {l : Launch} {e : Env} {s : State} {m : MethodId} {args : Array Value} {below : List Frame} {meth : Method} {c : Code} {G : mG} {b : Nat} (S : CallFix p m c cX6_qDropsToBracket 1 s args lw_all RX6) (hr : meth.sig.returnType = none) (hlk : meth.locks = false) (hK : mK G s) {x : MS} : ∀ (n : Nat) (σ : MS), fX6_qDropsToBracket_0 n σ = some x → mGo p l e rmX6_qDropsToBracket s m args below meth c G b (MQ below (mQv G b x) args s 0 0 (mB b)) 1 0 [(0, .ref b)] [] σ := by
  obtain ⟨hx, hb, hml, hown, hts⟩ := id S
  intro n
  induction n with
  | zero => intro σ h; cases h
  | succ n ih =>
    intro σ h H locs hM hS ls hl
    rw [fX6_qDropsToBracket_0] at h
    refine lv_aload_n hx hb dX6_qDropsToBracket_0 rfl (lv_at hl 0 rfl) ?_
    refine m_get S hK hM 94 (Nat.le_of_ble_eq_true rfl) q1826 (v := .int (σ.1 94)) rfl dX6_qDropsToBracket_1 ?_
    refine lv_aload_n hx hb dX6_qDropsToBracket_4 rfl (lv_at hl 0 rfl) ?_
    refine m_get S hK hM 96 (Nat.le_of_ble_eq_true rfl) q1828 (v := .int (σ.1 96)) rfl dX6_qDropsToBracket_5 ?_
    refine lv_icmp_le (tgt := 35) hx hb dX6_qDropsToBracket_8 (by decide) (fun c1 => ?_) (fun c1 => ?_)
    · replace h := it c1 h
      exact m_vret S hr hlk hM hS h dX6_qDropsToBracket_35
    replace h := ie c1 h
    refine lv_aload_n hx hb dX6_qDropsToBracket_11 rfl (lv_at hl 0 rfl) ?_
    refine m_get S hK hM 93 (Nat.le_of_ble_eq_true rfl) q1825 (v := .ref (ma b 93)) rfl dX6_qDropsToBracket_12 ?_
    refine lv_aload_n hx hb dX6_qDropsToBracket_15 rfl (lv_at hl 0 rfl) ?_
    refine m_get S hK hM 94 (Nat.le_of_ble_eq_true rfl) q1826 (v := .int (σ.1 94)) rfl dX6_qDropsToBracket_16 ?_
    refine lv_iconst (v := (1 : Int32)) hx hb dX6_qDropsToBracket_19 (by decide) ?_
    refine lv_isub hx hb dX6_qDropsToBracket_20 ?_
    replace h := ob h
    obtain ⟨v2, hv2, h⟩ := h
    refine m_iald S hK hM 93 rfl hv2 dX6_qDropsToBracket_21 ?_
    replace h := ob h
    obtain ⟨x3, hx3, h⟩ := h
    refine kX6_qIsBracket S hK hM hS hx3 ⟨Nat.le_of_ble_eq_true rfl, Nat.le_of_ble_eq_true rfl⟩ hl.1 (Nat.le_of_ble_eq_true rfl) dX6_qDropsToBracket_22 (fun H locs hM hS => ?_)
    refine lv_if_ne (tgt := 35) hx hb dX6_qDropsToBracket_25 (by decide) (fun c4 => ?_) (fun c4 => ?_)
    · replace h := ie c4 h
      exact m_vret S hr hlk hM hS h dX6_qDropsToBracket_35
    replace h := it c4 h
    refine lv_aload_n hx hb dX6_qDropsToBracket_28 rfl (lv_at hl 0 rfl) ?_
    replace h := ob h
    obtain ⟨x5, hx5, h⟩ := h
    refine kX6_qDrops S hK hM hS hx5 ⟨Nat.le_of_ble_eq_true rfl, Nat.le_of_ble_eq_true rfl⟩ hl.1 (Nat.le_of_ble_eq_true rfl) dX6_qDropsToBracket_29 (fun H locs hM hS => ?_)
    refine lv_goto (tgt := 0) hx hb dX6_qDropsToBracket_32 (by decide) ?_
    exact ih x5 h _ _ hM hS _ (lv_sub hl [0] rfl)
set_option maxHeartbeats 4000000 in
theorem metX6_qDropsToBracket {l : Launch} {G : mG} {b : Nat} {σ : MS} {x : MS} (h : fX6_qDropsToBracket σ = some x) : Met l yX6_qDropsToBracket (ws_ yX6_qDropsToBracket cX6_qDropsToBracket 1 (none)) rmX6_qDropsToBracket (mP G b σ [.ref b]) (mQv G b x) 0 0 (mB b) := by
  refine m_entry (by decide) rfl (Nat.le_of_ble_eq_true rfl) ?_
  intro p e s m below meth c S hr hlk hK hM hS ls hl
  replace hl : lv_has ls 1 [(0, .ref b)] := hl
  obtain ⟨hx, hb, hml, hown, hts⟩ := id S
  unfold fX6_qDropsToBracket at h
  exact wX6_qDropsToBracket_0 S hr hlk hK FU σ h _ _ hM hS _ (lv_sub hl [0] rfl)
theorem kX6_qDropsToBracket {p : Program} {l : Launch} {e : Env} {R : Room} {s : State} {m : MethodId} {args : Array Value} {below : List Frame} {meth : Method} {c : Code} {H H0 : Heap} {locs : List Loc} {Q : State → Prop} {cc : ByteArray} {nL pc : Nat} {ls : Array Slot} {rest : List Value} {G : mG} {b : Nat} {σ : MS} {x : MS} (S : CallFix p m c cc nL s args lw_all RX6) (hK : mK G s) (hM : MW G b σ H) (hS : va_S (mB b) H0 H locs) (hf : fX6_qDropsToBracket σ = some x) (hR : rmX6_qDropsToBracket.frames + 1 ≤ R.frames ∧ 8 + (1 + 11) + rmX6_qDropsToBracket.locals ≤ R.locals) (hsize : ls.size = nL) (hr : (rest.map fun v => v.category).sum ≤ 8) (hdg : decode cc pc = .ok (.invokevirtual 625, 3)) (kk : ∀ (H1 : Heap) (locs1 : List Loc), MW G b x H1 → va_S (mB b) H0 H1 locs1 → W p l e R s m args below meth c H1 locs1 0 0 Q (F0 m (pc + 3) ls (rest))) : W p l e R s m args below meth c H locs 0 0 Q (F0 m pc ls (.ref b :: rest)) :=
  m_cVv (As := []) S hK hM hS (metX6_qDropsToBracket hf) (cwV 0 S.2.2.2.2 (lw_V q2214 q2216 qs101 q179 q2217) rfl rfl rfl (by decide +kernel) hR) ⟨Nat.zero_le _, Nat.zero_le _⟩ rfl hsize rfl hr hdg kk

set_option maxRecDepth 100000
/-! tell()I -/
abbrev rmX6_tell : Room := { frames := 3, cells := 0, slots := 0, locals := 46 }
def fX6_tell_88 (k36 : MS → Int32 → Int32 → Int32 → Option (MS × Int32)) (σ : MS) (a1 : Int32) (a3 : Int32) (t0 : Int32) : Option (MS × Int32) :=
  k36 σ a1 t0 (a3 + (3 : Int32))
def fX6_tell_87 (k36 : MS → Int32 → Int32 → Int32 → Option (MS × Int32)) (σ : MS) (a1 : Int32) (a3 : Int32) : Option (MS × Int32) :=
  fX6_tell_88 k36 σ a1 a3 (0 : Int32)
def fX6_tell_113 : Nat → MS → Int32 → Int32 → Option (MS × Int32)
  | 0, _, _, _ => none
  | n + 1, σ, a1, a3 =>
    if a1 ≤ a3 then
      some ((sI σ 65 (a1 / (3 : Int32))), ((sI σ 65 (a1 / (3 : Int32))).1 65))
    else
    (aI σ 0 a3).bind fun v2 =>
    (tI σ 66 a3 v2).bind fun σ3 =>
    fX6_tell_113 n σ3 a1 (a3 + (1 : Int32))
def fX6_tell_95 (σ : MS) (a1 : Int32) (a2 : Int32) : Option (MS × Int32) :=
  if a2 = 0 then
    (aI σ 9 (1 : Int32)).bind fun v2 =>
    (tI σ 9 (1 : Int32) (v2 + (1 : Int32))).bind fun σ3 =>
    some (σ3, (-1 : Int32))
  else
  fX6_tell_113 FU σ a1 (0 : Int32)
def fX6_tell_36 : Nat → MS → Int32 → Int32 → Int32 → Option (MS × Int32)
  | 0, _, _, _, _ => none
  | n + 1, σ, a1, a2, a3 =>
    if a1 ≤ a3 then
      fX6_tell_95 σ a1 a2
    else
    if a2 = 0 then
      fX6_tell_95 σ a1 a2
    else
    (aI σ 0 a3).bind fun v3 =>
    if (24 : Int32) ≤ v3 then
      fX6_tell_87 (fun σ' b1 b2 b3 => fX6_tell_36 n σ' b1 b2 b3) σ a1 a3
    else
    (aI σ 0 (a3 + (1 : Int32))).bind fun v5 =>
    (fX6_isFilm σ v5).bind fun x6 =>
    if x6 = 0 then
      fX6_tell_87 (fun σ' b1 b2 b3 => fX6_tell_36 n σ' b1 b2 b3) σ a1 a3
    else
    (aI σ 0 (a3 + (2 : Int32))).bind fun v8 =>
    if (2 : Int32) ≤ v8 then
      fX6_tell_87 (fun σ' b1 b2 b3 => fX6_tell_36 n σ' b1 b2 b3) σ a1 a3
    else
    fX6_tell_88 (fun σ' b1 b2 b3 => fX6_tell_36 n σ' b1 b2 b3) σ a1 a3 (1 : Int32)
def fX6_tell_33 (σ : MS) (a1 : Int32) (t0 : Int32) : Option (MS × Int32) :=
  fX6_tell_36 FU σ a1 t0 (0 : Int32)
def fX6_tell_32 (σ : MS) (a1 : Int32) : Option (MS × Int32) :=
  fX6_tell_33 σ a1 (0 : Int32)
def fX6_tell (σ : MS) : Option (MS × Int32) :=
  if (σ.1 1) ≤ 0 then
    fX6_tell_32 (sI σ 1 (0 : Int32)) (σ.1 1)
  else
  if ((σ.1 1) - (σ.1 1) / (3 : Int32) * (3 : Int32)) = 0 then
    if (16 : Int32) < ((σ.1 1) / (3 : Int32)) then
      fX6_tell_32 (sI σ 1 (0 : Int32)) (σ.1 1)
    else
    fX6_tell_33 (sI σ 1 (0 : Int32)) (σ.1 1) (1 : Int32)
  else
  fX6_tell_32 (sI σ 1 (0 : Int32)) (σ.1 1)
set_option maxHeartbeats 4000000 in
theorem wX6_tell_88 {p : Program} {l : Launch} {e : Env} {s : State} {m : MethodId} {args : Array Value} {below : List Frame} {meth : Method} {c : Code} {G : mG} {b : Nat} (S : CallFix p m c cX6_tell 4 s args lw_all RX6) (hr : meth.sig.returnType = some .int) (hlk : meth.locks = false) (hK : mK G s) {x : MS × Int32} {k36 : MS → Int32 → Int32 → Int32 → Option (MS × Int32)} (hk36 : ∀ σ a1 a2 a3, k36 σ a1 a2 a3 = some x → mGo p l e rmX6_tell s m args below meth c G b (MQ below (mQi G b x) args s 0 0 (mB b)) 4 36 [(0, .ref b), (1, .int a1), (2, .int a2), (3, .int a3)] [] σ) : ∀ (σ : MS) (a1 : Int32) (a3 : Int32) (t0 : Int32), fX6_tell_88 k36 σ a1 a3 t0 = some x → mGo p l e rmX6_tell s m args below meth c G b (MQ below (mQi G b x) args s 0 0 (mB b)) 4 88 [(0, .ref b), (1, .int a1), (3, .int a3)] [.int t0] σ := by
  obtain ⟨hx, hb, hml, hown, hts⟩ := id S
  intro σ a1 a3 t0 h H locs hM hS ls hl
  unfold fX6_tell_88 at h
  refine lv_istore_n (lv' := [(2, .int t0), (0, .ref b), (1, .int a1), (3, .int a3)]) hx hb dX6_tell_88 rfl hl (by decide) rfl (fun ls hl => ?_)
  refine lv_iinc (v := (a3 + (3 : Int32))) (lv' := [(3, .int (a3 + (3 : Int32))), (2, .int t0), (0, .ref b), (1, .int a1)]) hx hb dX6_tell_89 hl (k := 3) rfl rfl (by decide) rfl (fun ls hl => ?_)
  refine lv_goto (tgt := 36) hx hb dX6_tell_92 (by decide) ?_
  exact hk36 σ a1 t0 (a3 + (3 : Int32)) h _ _ hM hS _ (lv_sub hl [2, 3, 1, 0] rfl)
set_option maxHeartbeats 4000000 in
theorem wX6_tell_87 {p : Program} {l : Launch} {e : Env} {s : State} {m : MethodId} {args : Array Value} {below : List Frame} {meth : Method} {c : Code} {G : mG} {b : Nat} (S : CallFix p m c cX6_tell 4 s args lw_all RX6) (hr : meth.sig.returnType = some .int) (hlk : meth.locks = false) (hK : mK G s) {x : MS × Int32} {k36 : MS → Int32 → Int32 → Int32 → Option (MS × Int32)} (hk36 : ∀ σ a1 a2 a3, k36 σ a1 a2 a3 = some x → mGo p l e rmX6_tell s m args below meth c G b (MQ below (mQi G b x) args s 0 0 (mB b)) 4 36 [(0, .ref b), (1, .int a1), (2, .int a2), (3, .int a3)] [] σ) : ∀ (σ : MS) (a1 : Int32) (a3 : Int32), fX6_tell_87 k36 σ a1 a3 = some x → mGo p l e rmX6_tell s m args below meth c G b (MQ below (mQi G b x) args s 0 0 (mB b)) 4 87 [(0, .ref b), (1, .int a1), (3, .int a3)] [] σ := by
  obtain ⟨hx, hb, hml, hown, hts⟩ := id S
  intro σ a1 a3 h H locs hM hS ls hl
  unfold fX6_tell_87 at h
  refine lv_iconst (v := (0 : Int32)) hx hb dX6_tell_87 (by decide) ?_
  exact wX6_tell_88 S hr hlk hK hk36 σ a1 a3 (0 : Int32) h _ _ hM hS _ (lv_sub hl [0, 1, 2] rfl)
set_option maxHeartbeats 4000000 in
theorem wX6_tell_113 {p : Program} {l : Launch} {e : Env} {s : State} {m : MethodId} {args : Array Value} {below : List Frame} {meth : Method} {c : Code} {G : mG} {b : Nat} (S : CallFix p m c cX6_tell 4 s args lw_all RX6) (hr : meth.sig.returnType = some .int) (hlk : meth.locks = false) (hK : mK G s) {x : MS × Int32} : ∀ (n : Nat) (σ : MS) (a1 : Int32) (a3 : Int32), fX6_tell_113 n σ a1 a3 = some x → mGo p l e rmX6_tell s m args below meth c G b (MQ below (mQi G b x) args s 0 0 (mB b)) 4 113 [(0, .ref b), (1, .int a1), (3, .int a3)] [] σ := by
  obtain ⟨hx, hb, hml, hown, hts⟩ := id S
  intro n
  induction n with
  | zero => intro σ a1 a3 h; cases h
  | succ n ih =>
    intro σ a1 a3 h H locs hM hS ls hl
    rw [fX6_tell_113] at h
    refine lv_iload_n hx hb dX6_tell_113 rfl (lv_at hl 2 rfl) ?_
    refine lv_iload_n hx hb dX6_tell_114 rfl (lv_at hl 1 rfl) ?_
    refine lv_icmp_ge (tgt := 136) hx hb dX6_tell_115 (by decide) (fun c1 => ?_) (fun c1 => ?_)
    · replace h := it c1 h
      refine lv_aload_n hx hb dX6_tell_136 rfl (lv_at hl 0 rfl) ?_
      refine lv_iload_n hx hb dX6_tell_137 rfl (lv_at hl 1 rfl) ?_
      refine lv_iconst (v := (3 : Int32)) hx hb dX6_tell_138 (by decide) ?_
      refine lv_idiv hx hb dX6_tell_139 (by decide) ?_
      refine m_putI S hK hM hS 65 (Nat.le_of_ble_eq_true rfl) rfl q1797 rfl (ty := .int) rfl rfl rfl dX6_tell_140 (fun H locs hM hS => ?_)
      refine lv_aload_n hx hb dX6_tell_143 rfl (lv_at hl 0 rfl) ?_
      refine m_get S hK hM 65 (Nat.le_of_ble_eq_true rfl) q1797 (v := .int ((sI σ 65 (a1 / (3 : Int32))).1 65)) rfl dX6_tell_144 ?_
      exact m_iret S hr hlk rfl hM hS h dX6_tell_147
    replace h := ie c1 h
    refine lv_aload_n hx hb dX6_tell_118 rfl (lv_at hl 0 rfl) ?_
    refine m_get S hK hM 66 (Nat.le_of_ble_eq_true rfl) q1798 (v := .ref (ma b 66)) rfl dX6_tell_119 ?_
    refine lv_iload_n hx hb dX6_tell_122 rfl (lv_at hl 2 rfl) ?_
    refine lv_aload_n hx hb dX6_tell_123 rfl (lv_at hl 0 rfl) ?_
    refine m_get S hK hM 0 (Nat.le_of_ble_eq_true rfl) q1732 (v := .ref (ma b 0)) rfl dX6_tell_124 ?_
    refine lv_iload_n hx hb dX6_tell_127 rfl (lv_at hl 2 rfl) ?_
    replace h := ob h
    obtain ⟨v2, hv2, h⟩ := h
    refine m_iald S hK hM 0 rfl hv2 dX6_tell_128 ?_
    replace h := ob h
    obtain ⟨σ3, hσ3, h⟩ := h
    refine m_iast S hK hM hS 66 rfl hσ3 dX6_tell_129 (fun H locs hM hS => ?_)
    refine lv_iinc (v := (a3 + (1 : Int32))) (lv' := [(3, .int (a3 + (1 : Int32))), (0, .ref b), (1, .int a1)]) hx hb dX6_tell_130 hl (k := 2) rfl rfl (by decide) rfl (fun ls hl => ?_)
    refine lv_goto (tgt := 113) hx hb dX6_tell_133 (by decide) ?_
    exact ih σ3 a1 (a3 + (1 : Int32)) h _ _ hM hS _ (lv_sub hl [1, 2, 0] rfl)
set_option maxHeartbeats 4000000 in
theorem wX6_tell_95 {p : Program} {l : Launch} {e : Env} {s : State} {m : MethodId} {args : Array Value} {below : List Frame} {meth : Method} {c : Code} {G : mG} {b : Nat} (S : CallFix p m c cX6_tell 4 s args lw_all RX6) (hr : meth.sig.returnType = some .int) (hlk : meth.locks = false) (hK : mK G s) {x : MS × Int32} : ∀ (σ : MS) (a1 : Int32) (a2 : Int32), fX6_tell_95 σ a1 a2 = some x → mGo p l e rmX6_tell s m args below meth c G b (MQ below (mQi G b x) args s 0 0 (mB b)) 4 95 [(0, .ref b), (1, .int a1), (2, .int a2)] [] σ := by
  obtain ⟨hx, hb, hml, hown, hts⟩ := id S
  intro σ a1 a2 h H locs hM hS ls hl
  unfold fX6_tell_95 at h
  refine lv_iload_n hx hb dX6_tell_95 rfl (lv_at hl 2 rfl) ?_
  refine lv_if_ne (tgt := 111) hx hb dX6_tell_96 (by decide) (fun c1 => ?_) (fun c1 => ?_)
  · replace h := ie c1 h
    refine lv_iconst (v := (0 : Int32)) hx hb dX6_tell_111 (by decide) ?_
    refine lv_istore_n (lv' := [(3, .int (0 : Int32)), (0, .ref b), (1, .int a1), (2, .int a2)]) hx hb dX6_tell_112 rfl hl (by decide) rfl (fun ls hl => ?_)
    exact wX6_tell_113 S hr hlk hK FU σ a1 (0 : Int32) h _ _ hM hS _ (lv_sub hl [1, 2, 0] rfl)
  replace h := it c1 h
  refine lv_aload_n hx hb dX6_tell_99 rfl (lv_at hl 0 rfl) ?_
  refine m_get S hK hM 9 (Nat.le_of_ble_eq_true rfl) q1741 (v := .ref (ma b 9)) rfl dX6_tell_100 ?_
  refine lv_iconst (v := (1 : Int32)) hx hb dX6_tell_103 (by decide) ?_
  refine lv_dup2_11 hx hb dX6_tell_104 rfl rfl ?_
  replace h := ob h
  obtain ⟨v2, hv2, h⟩ := h
  refine m_iald S hK hM 9 rfl hv2 dX6_tell_105 ?_
  refine lv_iconst (v := (1 : Int32)) hx hb dX6_tell_106 (by decide) ?_
  refine lv_iadd hx hb dX6_tell_107 ?_
  replace h := ob h
  obtain ⟨σ3, hσ3, h⟩ := h
  refine m_iast S hK hM hS 9 rfl hσ3 dX6_tell_108 (fun H locs hM hS => ?_)
  refine lv_iconst (v := (-1 : Int32)) hx hb dX6_tell_109 (by decide) ?_
  exact m_iret S hr hlk rfl hM hS h dX6_tell_110
set_option maxHeartbeats 4000000 in
theorem wX6_tell_36 {p : Program} {l : Launch} {e : Env} {s : State} {m : MethodId} {args : Array Value} {below : List Frame} {meth : Method} {c : Code} {G : mG} {b : Nat} (S : CallFix p m c cX6_tell 4 s args lw_all RX6) (hr : meth.sig.returnType = some .int) (hlk : meth.locks = false) (hK : mK G s) {x : MS × Int32} : ∀ (n : Nat) (σ : MS) (a1 : Int32) (a2 : Int32) (a3 : Int32), fX6_tell_36 n σ a1 a2 a3 = some x → mGo p l e rmX6_tell s m args below meth c G b (MQ below (mQi G b x) args s 0 0 (mB b)) 4 36 [(0, .ref b), (1, .int a1), (2, .int a2), (3, .int a3)] [] σ := by
  obtain ⟨hx, hb, hml, hown, hts⟩ := id S
  intro n
  induction n with
  | zero => intro σ a1 a2 a3 h; cases h
  | succ n ih =>
    intro σ a1 a2 a3 h H locs hM hS ls hl
    rw [fX6_tell_36] at h
    refine lv_iload_n hx hb dX6_tell_36 rfl (lv_at hl 3 rfl) ?_
    refine lv_iload_n hx hb dX6_tell_37 rfl (lv_at hl 1 rfl) ?_
    refine lv_icmp_ge (tgt := 95) hx hb dX6_tell_38 (by decide) (fun c1 => ?_) (fun c1 => ?_)
    · replace h := it c1 h
      exact wX6_tell_95 S hr hlk hK σ a1 a2 h _ _ hM hS _ (lv_sub hl [0, 1, 2] rfl)
    replace h := ie c1 h
    refine lv_iload_n hx hb dX6_tell_41 rfl (lv_at hl 2 rfl) ?_
    refine lv_if_eq (tgt := 95) hx hb dX6_tell_42 (by decide) (fun c2 => ?_) (fun c2 => ?_)
    · replace h := it c2 h
      exact wX6_tell_95 S hr hlk hK σ a1 a2 h _ _ hM hS _ (lv_sub hl [0, 1, 2] rfl)
    replace h := ie c2 h
    refine lv_aload_n hx hb dX6_tell_45 rfl (lv_at hl 0 rfl) ?_
    refine m_get S hK hM 0 (Nat.le_of_ble_eq_true rfl) q1732 (v := .ref (ma b 0)) rfl dX6_tell_46 ?_
    refine lv_iload_n hx hb dX6_tell_49 rfl (lv_at hl 3 rfl) ?_
    replace h := ob h
    obtain ⟨v3, hv3, h⟩ := h
    refine m_iald S hK hM 0 rfl hv3 dX6_tell_50 ?_
    refine lv_bipush (v := (24 : Int32)) hx hb dX6_tell_51 (by decide) ?_
    refine lv_icmp_ge (tgt := 87) hx hb dX6_tell_53 (by decide) (fun c4 => ?_) (fun c4 => ?_)
    · replace h := it c4 h
      exact wX6_tell_87 S hr hlk hK ih σ a1 a3 h _ _ hM hS _ (lv_sub hl [0, 1, 3] rfl)
    replace h := ie c4 h
    refine lv_aload_n hx hb dX6_tell_56 rfl (lv_at hl 0 rfl) ?_
    refine lv_aload_n hx hb dX6_tell_57 rfl (lv_at hl 0 rfl) ?_
    refine m_get S hK hM 0 (Nat.le_of_ble_eq_true rfl) q1732 (v := .ref (ma b 0)) rfl dX6_tell_58 ?_
    refine lv_iload_n hx hb dX6_tell_61 rfl (lv_at hl 3 rfl) ?_
    refine lv_iconst (v := (1 : Int32)) hx hb dX6_tell_62 (by decide) ?_
    refine lv_iadd hx hb dX6_tell_63 ?_
    replace h := ob h
    obtain ⟨v5, hv5, h⟩ := h
    refine m_iald S hK hM 0 rfl hv5 dX6_tell_64 ?_
    replace h := ob h
    obtain ⟨x6, hx6, h⟩ := h
    refine kX6_isFilm S hK hM hS hx6 ⟨Nat.le_of_ble_eq_true rfl, Nat.le_of_ble_eq_true rfl⟩ hl.1 (Nat.le_of_ble_eq_true rfl) dX6_tell_65 (fun H locs hM hS => ?_)
    refine lv_if_eq (tgt := 87) hx hb dX6_tell_68 (by decide) (fun c7 => ?_) (fun c7 => ?_)
    · replace h := it c7 h
      exact wX6_tell_87 S hr hlk hK ih σ a1 a3 h _ _ hM hS _ (lv_sub hl [0, 1, 3] rfl)
    replace h := ie c7 h
    refine lv_aload_n hx hb dX6_tell_71 rfl (lv_at hl 0 rfl) ?_
    refine m_get S hK hM 0 (Nat.le_of_ble_eq_true rfl) q1732 (v := .ref (ma b 0)) rfl dX6_tell_72 ?_
    refine lv_iload_n hx hb dX6_tell_75 rfl (lv_at hl 3 rfl) ?_
    refine lv_iconst (v := (2 : Int32)) hx hb dX6_tell_76 (by decide) ?_
    refine lv_iadd hx hb dX6_tell_77 ?_
    replace h := ob h
    obtain ⟨v8, hv8, h⟩ := h
    refine m_iald S hK hM 0 rfl hv8 dX6_tell_78 ?_
    refine lv_iconst (v := (2 : Int32)) hx hb dX6_tell_79 (by decide) ?_
    refine lv_icmp_ge (tgt := 87) hx hb dX6_tell_80 (by decide) (fun c9 => ?_) (fun c9 => ?_)
    · replace h := it c9 h
      exact wX6_tell_87 S hr hlk hK ih σ a1 a3 h _ _ hM hS _ (lv_sub hl [0, 1, 3] rfl)
    replace h := ie c9 h
    refine lv_iconst (v := (1 : Int32)) hx hb dX6_tell_83 (by decide) ?_
    refine lv_goto (tgt := 88) hx hb dX6_tell_84 (by decide) ?_
    exact wX6_tell_88 S hr hlk hK ih σ a1 a3 (1 : Int32) h _ _ hM hS _ (lv_sub hl [0, 1, 3] rfl)
set_option maxHeartbeats 4000000 in
theorem wX6_tell_33 {p : Program} {l : Launch} {e : Env} {s : State} {m : MethodId} {args : Array Value} {below : List Frame} {meth : Method} {c : Code} {G : mG} {b : Nat} (S : CallFix p m c cX6_tell 4 s args lw_all RX6) (hr : meth.sig.returnType = some .int) (hlk : meth.locks = false) (hK : mK G s) {x : MS × Int32} : ∀ (σ : MS) (a1 : Int32) (t0 : Int32), fX6_tell_33 σ a1 t0 = some x → mGo p l e rmX6_tell s m args below meth c G b (MQ below (mQi G b x) args s 0 0 (mB b)) 4 33 [(0, .ref b), (1, .int a1)] [.int t0] σ := by
  obtain ⟨hx, hb, hml, hown, hts⟩ := id S
  intro σ a1 t0 h H locs hM hS ls hl
  unfold fX6_tell_33 at h
  refine lv_istore_n (lv' := [(2, .int t0), (0, .ref b), (1, .int a1)]) hx hb dX6_tell_33 rfl hl (by decide) rfl (fun ls hl => ?_)
  refine lv_iconst (v := (0 : Int32)) hx hb dX6_tell_34 (by decide) ?_
  refine lv_istore_n (lv' := [(3, .int (0 : Int32)), (2, .int t0), (0, .ref b), (1, .int a1)]) hx hb dX6_tell_35 rfl hl (by decide) rfl (fun ls hl => ?_)
  exact wX6_tell_36 S hr hlk hK FU σ a1 t0 (0 : Int32) h _ _ hM hS _ (lv_sub hl [2, 3, 1, 0] rfl)
set_option maxHeartbeats 4000000 in
theorem wX6_tell_32 {p : Program} {l : Launch} {e : Env} {s : State} {m : MethodId} {args : Array Value} {below : List Frame} {meth : Method} {c : Code} {G : mG} {b : Nat} (S : CallFix p m c cX6_tell 4 s args lw_all RX6) (hr : meth.sig.returnType = some .int) (hlk : meth.locks = false) (hK : mK G s) {x : MS × Int32} : ∀ (σ : MS) (a1 : Int32), fX6_tell_32 σ a1 = some x → mGo p l e rmX6_tell s m args below meth c G b (MQ below (mQi G b x) args s 0 0 (mB b)) 4 32 [(0, .ref b), (1, .int a1)] [] σ := by
  obtain ⟨hx, hb, hml, hown, hts⟩ := id S
  intro σ a1 h H locs hM hS ls hl
  unfold fX6_tell_32 at h
  refine lv_iconst (v := (0 : Int32)) hx hb dX6_tell_32 (by decide) ?_
  exact wX6_tell_33 S hr hlk hK σ a1 (0 : Int32) h _ _ hM hS _ (lv_sub hl [0, 1] rfl)
set_option maxHeartbeats 4000000 in
theorem metX6_tell {l : Launch} {G : mG} {b : Nat} {σ : MS} {x : MS × Int32} (h : fX6_tell σ = some x) : Met l yX6_tell (ws_ yX6_tell cX6_tell 4 (some .int)) rmX6_tell (mP G b σ [.ref b]) (mQi G b x) 0 0 (mB b) := by
  refine m_entry (by decide) rfl (Nat.le_of_ble_eq_true rfl) ?_
  intro p e s m below meth c S hr hlk hK hM hS ls hl
  replace hl : lv_has ls 4 [(0, .ref b)] := hl
  obtain ⟨hx, hb, hml, hown, hts⟩ := id S
  unfold fX6_tell at h
  refine lv_aload_n hx hb dX6_tell_0 rfl (lv_at hl 0 rfl) ?_
  refine m_get S hK hM 1 (Nat.le_of_ble_eq_true rfl) q1733 (v := .int (σ.1 1)) rfl dX6_tell_1 ?_
  refine lv_istore_n (lv' := [(1, .int (σ.1 1)), (0, .ref b)]) hx hb dX6_tell_4 rfl hl (by decide) rfl (fun ls hl => ?_)
  refine lv_aload_n hx hb dX6_tell_5 rfl (lv_at hl 1 rfl) ?_
  refine lv_iconst (v := (0 : Int32)) hx hb dX6_tell_6 (by decide) ?_
  refine m_putI S hK hM hS 1 (Nat.le_of_ble_eq_true rfl) rfl q1733 rfl (ty := .int) rfl rfl rfl dX6_tell_7 (fun H locs hM hS => ?_)
  refine lv_iload_n hx hb dX6_tell_10 rfl (lv_at hl 0 rfl) ?_
  refine lv_if_le (tgt := 32) hx hb dX6_tell_11 (by decide) (fun c1 => ?_) (fun c1 => ?_)
  · replace h := it c1 h
    exact wX6_tell_32 S hr hlk hK (sI σ 1 (0 : Int32)) (σ.1 1) h _ _ hM hS _ (lv_sub hl [1, 0] rfl)
  replace h := ie c1 h
  refine lv_iload_n hx hb dX6_tell_14 rfl (lv_at hl 0 rfl) ?_
  refine lv_iconst (v := (3 : Int32)) hx hb dX6_tell_15 (by decide) ?_
  refine lv_irem hx hb dX6_tell_16 (by decide) ?_
  refine lv_if_ne (tgt := 32) hx hb dX6_tell_17 (by decide) (fun c2 => ?_) (fun c2 => ?_)
  · replace h := ie c2 h
    exact wX6_tell_32 S hr hlk hK (sI σ 1 (0 : Int32)) (σ.1 1) h _ _ hM hS _ (lv_sub hl [1, 0] rfl)
  replace h := it c2 h
  refine lv_iload_n hx hb dX6_tell_20 rfl (lv_at hl 0 rfl) ?_
  refine lv_iconst (v := (3 : Int32)) hx hb dX6_tell_21 (by decide) ?_
  refine lv_idiv hx hb dX6_tell_22 (by decide) ?_
  refine lv_bipush (v := (16 : Int32)) hx hb dX6_tell_23 (by decide) ?_
  refine lv_icmp_gt (tgt := 32) hx hb dX6_tell_25 (by decide) (fun c3 => ?_) (fun c3 => ?_)
  · replace h := it c3 h
    exact wX6_tell_32 S hr hlk hK (sI σ 1 (0 : Int32)) (σ.1 1) h _ _ hM hS _ (lv_sub hl [1, 0] rfl)
  replace h := ie c3 h
  refine lv_iconst (v := (1 : Int32)) hx hb dX6_tell_28 (by decide) ?_
  refine lv_goto (tgt := 33) hx hb dX6_tell_29 (by decide) ?_
  exact wX6_tell_33 S hr hlk hK (sI σ 1 (0 : Int32)) (σ.1 1) (1 : Int32) h _ _ hM hS _ (lv_sub hl [1, 0] rfl)
/-! isSeenNow(I)Z -/
abbrev rmX6_isSeenNow : Room := { frames := 2, cells := 0, slots := 0, locals := 20 }
def fX6_isSeenNow_2 (σ : MS) : Nat → Int32 → Int32 → Option (Int32)
  | 0, _, _ => none
  | n + 1, a1, a2 =>
    (fX6_personMany σ).bind fun x1 =>
    if x1 ≤ a2 then
      some (0 : Int32)
    else
    (aI σ 61 a2).bind fun v3 =>
    if v3 = a1 then
      some (1 : Int32)
    else
    fX6_isSeenNow_2 σ n a1 (a2 + (1 : Int32))
def fX6_isSeenNow (σ : MS) (a1 : Int32) : Option (Int32) :=
  fX6_isSeenNow_2 σ FU a1 (0 : Int32)
set_option maxHeartbeats 4000000 in
theorem wX6_isSeenNow_2 {p : Program} {l : Launch} {e : Env} {s : State} {m : MethodId} {args : Array Value} {below : List Frame} {meth : Method} {c : Code} {G : mG} {b : Nat} {σ : MS} (S : CallFix p m c cX6_isSeenNow 3 s args lw_all RX6) (hr : meth.sig.returnType = some .boolean) (hlk : meth.locks = false) (hK : mK G s) {x : Int32} : ∀ (n : Nat) (a1 : Int32) (a2 : Int32), fX6_isSeenNow_2 σ n a1 a2 = some x → mGo p l e rmX6_isSeenNow s m args below meth c G b (MQ below (mQi G b (σ, x)) args s 0 0 (mB b)) 3 2 [(0, .ref b), (1, .int a1), (2, .int a2)] [] σ := by
  obtain ⟨hx, hb, hml, hown, hts⟩ := id S
  intro n
  induction n with
  | zero => intro a1 a2 h; cases h
  | succ n ih =>
    intro a1 a2 h H locs hM hS ls hl
    rw [fX6_isSeenNow_2] at h
    refine lv_iload_n hx hb dX6_isSeenNow_2 rfl (lv_at hl 2 rfl) ?_
    refine lv_aload_n hx hb dX6_isSeenNow_3 rfl (lv_at hl 0 rfl) ?_
    replace h := ob h
    obtain ⟨x1, hx1, h⟩ := h
    refine kX6_personMany S hK hM hS hx1 ⟨Nat.le_of_ble_eq_true rfl, Nat.le_of_ble_eq_true rfl⟩ hl.1 (Nat.le_of_ble_eq_true rfl) dX6_isSeenNow_4 (fun H locs hM hS => ?_)
    refine lv_icmp_ge (tgt := 28) hx hb dX6_isSeenNow_7 (by decide) (fun c2 => ?_) (fun c2 => ?_)
    · replace h := it c2 h
      refine lv_iconst (v := (0 : Int32)) hx hb dX6_isSeenNow_28 (by decide) ?_
      exact m_iret' S hr hlk rfl hM hS h dX6_isSeenNow_29
    replace h := ie c2 h
    refine lv_aload_n hx hb dX6_isSeenNow_10 rfl (lv_at hl 0 rfl) ?_
    refine m_get S hK hM 61 (Nat.le_of_ble_eq_true rfl) q1793 (v := .ref (ma b 61)) rfl dX6_isSeenNow_11 ?_
    refine lv_iload_n hx hb dX6_isSeenNow_14 rfl (lv_at hl 2 rfl) ?_
    replace h := ob h
    obtain ⟨v3, hv3, h⟩ := h
    refine m_iald S hK hM 61 rfl hv3 dX6_isSeenNow_15 ?_
    refine lv_iload_n hx hb dX6_isSeenNow_16 rfl (lv_at hl 1 rfl) ?_
    refine lv_icmp_ne (tgt := 22) hx hb dX6_isSeenNow_17 (by decide) (fun c4 => ?_) (fun c4 => ?_)
    rotate_left 1
    · replace h := it c4 h
      refine lv_iconst (v := (1 : Int32)) hx hb dX6_isSeenNow_20 (by decide) ?_
      exact m_iret' S hr hlk rfl hM hS h dX6_isSeenNow_21
    replace h := ie c4 h
    refine lv_iinc (v := (a2 + (1 : Int32))) (lv' := [(2, .int (a2 + (1 : Int32))), (0, .ref b), (1, .int a1)]) hx hb dX6_isSeenNow_22 hl (k := 2) rfl rfl (by decide) rfl (fun ls hl => ?_)
    refine lv_goto (tgt := 2) hx hb dX6_isSeenNow_25 (by decide) ?_
    exact ih a1 (a2 + (1 : Int32)) h _ _ hM hS _ (lv_sub hl [1, 2, 0] rfl)
set_option maxHeartbeats 4000000 in
theorem metX6_isSeenNow {l : Launch} {G : mG} {b : Nat} {σ : MS} {a1 : Int32} {x : Int32} (h : fX6_isSeenNow σ a1 = some x) : Met l yX6_isSeenNow (ws_ yX6_isSeenNow cX6_isSeenNow 3 (some .boolean)) rmX6_isSeenNow (mP G b σ [.ref b, .int a1]) (mQi G b (σ, x)) 0 0 (mB b) := by
  refine m_entry (by decide) rfl (Nat.le_of_ble_eq_true rfl) ?_
  intro p e s m below meth c S hr hlk hK hM hS ls hl
  replace hl : lv_has ls 3 [(0, .ref b), (1, .int a1)] := hl
  obtain ⟨hx, hb, hml, hown, hts⟩ := id S
  unfold fX6_isSeenNow at h
  refine lv_iconst (v := (0 : Int32)) hx hb dX6_isSeenNow_0 (by decide) ?_
  refine lv_istore_n (lv' := [(2, .int (0 : Int32)), (0, .ref b), (1, .int a1)]) hx hb dX6_isSeenNow_1 rfl hl (by decide) rfl (fun ls hl => ?_)
  exact wX6_isSeenNow_2 S hr hlk hK FU a1 (0 : Int32) h _ _ hM hS _ (lv_sub hl [1, 2, 0] rfl)
theorem kX6_isSeenNow {p : Program} {l : Launch} {e : Env} {R : Room} {s : State} {m : MethodId} {args : Array Value} {below : List Frame} {meth : Method} {c : Code} {H H0 : Heap} {locs : List Loc} {Q : State → Prop} {cc : ByteArray} {nL pc : Nat} {ls : Array Slot} {rest : List Value} {G : mG} {b : Nat} {σ : MS} {a1 : Int32} {x : Int32} (S : CallFix p m c cc nL s args lw_all RX6) (hK : mK G s) (hM : MW G b σ H) (hS : va_S (mB b) H0 H locs) (hf : fX6_isSeenNow σ a1 = some x) (hR : rmX6_isSeenNow.frames + 1 ≤ R.frames ∧ 8 + (3 + 11) + rmX6_isSeenNow.locals ≤ R.locals) (hsize : ls.size = nL) (hr : (rest.map fun v => v.category).sum ≤ 8) (hdg : decode cc pc = .ok (.invokevirtual 566, 3)) (kk : ∀ (H1 : Heap) (locs1 : List Loc), MW G b σ H1 → va_S (mB b) H0 H1 locs1 → W p l e R s m args below meth c H1 locs1 0 0 Q (F0 m (pc + 3) ls (.int x :: rest))) : W p l e R s m args below meth c H locs 0 0 Q (F0 m pc ls (.int a1 :: .ref b :: rest)) :=
  m_cVi (As := [.int a1]) S hK hM hS (metX6_isSeenNow hf) (cwV 1 S.2.2.2.2 (lw_V q2516 q2518 qs151 q179 q2519) rfl rfl rfl (by decide +kernel) hR) ⟨Nat.zero_le _, Nat.zero_le _⟩ rfl hsize rfl hr hdg kk
/-! lastHour()I -/
abbrev rmX6_lastHour : Room := { frames := 1, cells := 0, slots := 0, locals := 0 }
def fX6_lastHour_33 (σ : MS) (k4 : Int32 → Int32 → Option (Int32)) (a1 : Int32) (a2 : Int32) : Option (Int32) :=
  k4 a1 (a2 + (1 : Int32))
def fX6_lastHour_4 (σ : MS) : Nat → Int32 → Int32 → Option (Int32)
  | 0, _, _ => none
  | n + 1, a1, a2 =>
    if (σ.1 65) ≤ a2 then
      some a1
    else
    (aI σ 66 ((3 : Int32) * a2)).bind fun v2 =>
    if v2 ≤ a1 then
      fX6_lastHour_33 σ (fun b1 b2 => fX6_lastHour_4 σ n b1 b2) a1 a2
    else
    (aI σ 66 ((3 : Int32) * a2)).bind fun v4 =>
    fX6_lastHour_33 σ (fun b1 b2 => fX6_lastHour_4 σ n b1 b2) v4 a2
def fX6_lastHour (σ : MS) : Option (Int32) :=
  fX6_lastHour_4 σ FU (-1 : Int32) (0 : Int32)
set_option maxHeartbeats 4000000 in
theorem wX6_lastHour_33 {p : Program} {l : Launch} {e : Env} {s : State} {m : MethodId} {args : Array Value} {below : List Frame} {meth : Method} {c : Code} {G : mG} {b : Nat} {σ : MS} (S : CallFix p m c cX6_lastHour 3 s args lw_all RX6) (hr : meth.sig.returnType = some .int) (hlk : meth.locks = false) (hK : mK G s) {x : Int32} {k4 : Int32 → Int32 → Option (Int32)} (hk4 : ∀ a1 a2, k4 a1 a2 = some x → mGo p l e rmX6_lastHour s m args below meth c G b (MQ below (mQi G b (σ, x)) args s 0 0 (mB b)) 3 4 [(0, .ref b), (1, .int a1), (2, .int a2)] [] σ) : ∀ (a1 : Int32) (a2 : Int32), fX6_lastHour_33 σ k4 a1 a2 = some x → mGo p l e rmX6_lastHour s m args below meth c G b (MQ below (mQi G b (σ, x)) args s 0 0 (mB b)) 3 33 [(0, .ref b), (1, .int a1), (2, .int a2)] [] σ := by
  obtain ⟨hx, hb, hml, hown, hts⟩ := id S
  intro a1 a2 h H locs hM hS ls hl
  unfold fX6_lastHour_33 at h
  refine lv_iinc (v := (a2 + (1 : Int32))) (lv' := [(2, .int (a2 + (1 : Int32))), (0, .ref b), (1, .int a1)]) hx hb dX6_lastHour_33 hl (k := 2) rfl rfl (by decide) rfl (fun ls hl => ?_)
  refine lv_goto (tgt := 4) hx hb dX6_lastHour_36 (by decide) ?_
  exact hk4 a1 (a2 + (1 : Int32)) h _ _ hM hS _ (lv_sub hl [1, 2, 0] rfl)
set_option maxHeartbeats 4000000 in
theorem wX6_lastHour_4 {p : Program} {l : Launch} {e : Env} {s : State} {m : MethodId} {args : Array Value} {below : List Frame} {meth : Method} {c : Code} {G : mG} {b : Nat} {σ : MS} (S : CallFix p m c cX6_lastHour 3 s args lw_all RX6) (hr : meth.sig.returnType = some .int) (hlk : meth.locks = false) (hK : mK G s) {x : Int32} : ∀ (n : Nat) (a1 : Int32) (a2 : Int32), fX6_lastHour_4 σ n a1 a2 = some x → mGo p l e rmX6_lastHour s m args below meth c G b (MQ below (mQi G b (σ, x)) args s 0 0 (mB b)) 3 4 [(0, .ref b), (1, .int a1), (2, .int a2)] [] σ := by
  obtain ⟨hx, hb, hml, hown, hts⟩ := id S
  intro n
  induction n with
  | zero => intro a1 a2 h; cases h
  | succ n ih =>
    intro a1 a2 h H locs hM hS ls hl
    rw [fX6_lastHour_4] at h
    refine lv_iload_n hx hb dX6_lastHour_4 rfl (lv_at hl 2 rfl) ?_
    refine lv_aload_n hx hb dX6_lastHour_5 rfl (lv_at hl 0 rfl) ?_
    refine m_get S hK hM 65 (Nat.le_of_ble_eq_true rfl) q1797 (v := .int (σ.1 65)) rfl dX6_lastHour_6 ?_
    refine lv_icmp_ge (tgt := 39) hx hb dX6_lastHour_9 (by decide) (fun c1 => ?_) (fun c1 => ?_)
    · replace h := it c1 h
      refine lv_iload_n hx hb dX6_lastHour_39 rfl (lv_at hl 1 rfl) ?_
      exact m_iret' S hr hlk rfl hM hS h dX6_lastHour_40
    replace h := ie c1 h
    refine lv_aload_n hx hb dX6_lastHour_12 rfl (lv_at hl 0 rfl) ?_
    refine m_get S hK hM 66 (Nat.le_of_ble_eq_true rfl) q1798 (v := .ref (ma b 66)) rfl dX6_lastHour_13 ?_
    refine lv_iconst (v := (3 : Int32)) hx hb dX6_lastHour_16 (by decide) ?_
    refine lv_iload_n hx hb dX6_lastHour_17 rfl (lv_at hl 2 rfl) ?_
    refine lv_imul hx hb dX6_lastHour_18 ?_
    replace h := ob h
    obtain ⟨v2, hv2, h⟩ := h
    refine m_iald S hK hM 66 rfl hv2 dX6_lastHour_19 ?_
    refine lv_iload_n hx hb dX6_lastHour_20 rfl (lv_at hl 1 rfl) ?_
    refine lv_icmp_le (tgt := 33) hx hb dX6_lastHour_21 (by decide) (fun c3 => ?_) (fun c3 => ?_)
    · replace h := it c3 h
      exact wX6_lastHour_33 S hr hlk hK ih a1 a2 h _ _ hM hS _ (lv_sub hl [0, 1, 2] rfl)
    replace h := ie c3 h
    refine lv_aload_n hx hb dX6_lastHour_24 rfl (lv_at hl 0 rfl) ?_
    refine m_get S hK hM 66 (Nat.le_of_ble_eq_true rfl) q1798 (v := .ref (ma b 66)) rfl dX6_lastHour_25 ?_
    refine lv_iconst (v := (3 : Int32)) hx hb dX6_lastHour_28 (by decide) ?_
    refine lv_iload_n hx hb dX6_lastHour_29 rfl (lv_at hl 2 rfl) ?_
    refine lv_imul hx hb dX6_lastHour_30 ?_
    replace h := ob h
    obtain ⟨v4, hv4, h⟩ := h
    refine m_iald S hK hM 66 rfl hv4 dX6_lastHour_31 ?_
    refine lv_istore_n (lv' := [(1, .int v4), (0, .ref b), (2, .int a2)]) hx hb dX6_lastHour_32 rfl hl (by decide) rfl (fun ls hl => ?_)
    exact wX6_lastHour_33 S hr hlk hK ih v4 a2 h _ _ hM hS _ (lv_sub hl [1, 0, 2] rfl)
set_option maxHeartbeats 4000000 in
theorem metX6_lastHour {l : Launch} {G : mG} {b : Nat} {σ : MS} {x : Int32} (h : fX6_lastHour σ = some x) : Met l yX6_lastHour (ws_ yX6_lastHour cX6_lastHour 3 (some .int)) rmX6_lastHour (mP G b σ [.ref b]) (mQi G b (σ, x)) 0 0 (mB b) := by
  refine m_entry (by decide) rfl (Nat.le_of_ble_eq_true rfl) ?_
  intro p e s m below meth c S hr hlk hK hM hS ls hl
  replace hl : lv_has ls 3 [(0, .ref b)] := hl
  obtain ⟨hx, hb, hml, hown, hts⟩ := id S
  unfold fX6_lastHour at h
  refine lv_iconst (v := (-1 : Int32)) hx hb dX6_lastHour_0 (by decide) ?_
  refine lv_istore_n (lv' := [(1, .int (-1 : Int32)), (0, .ref b)]) hx hb dX6_lastHour_1 rfl hl (by decide) rfl (fun ls hl => ?_)
  refine lv_iconst (v := (0 : Int32)) hx hb dX6_lastHour_2 (by decide) ?_
  refine lv_istore_n (lv' := [(2, .int (0 : Int32)), (1, .int (-1 : Int32)), (0, .ref b)]) hx hb dX6_lastHour_3 rfl hl (by decide) rfl (fun ls hl => ?_)
  exact wX6_lastHour_4 S hr hlk hK FU (-1 : Int32) (0 : Int32) h _ _ hM hS _ (lv_sub hl [2, 1, 0] rfl)
theorem kX6_lastHour {p : Program} {l : Launch} {e : Env} {R : Room} {s : State} {m : MethodId} {args : Array Value} {below : List Frame} {meth : Method} {c : Code} {H H0 : Heap} {locs : List Loc} {Q : State → Prop} {cc : ByteArray} {nL pc : Nat} {ls : Array Slot} {rest : List Value} {G : mG} {b : Nat} {σ : MS} {x : Int32} (S : CallFix p m c cc nL s args lw_all RX6) (hK : mK G s) (hM : MW G b σ H) (hS : va_S (mB b) H0 H locs) (hf : fX6_lastHour σ = some x) (hR : rmX6_lastHour.frames + 1 ≤ R.frames ∧ 8 + (3 + 11) + rmX6_lastHour.locals ≤ R.locals) (hsize : ls.size = nL) (hr : (rest.map fun v => v.category).sum ≤ 8) (hdg : decode cc pc = .ok (.invokevirtual 563, 3)) (kk : ∀ (H1 : Heap) (locs1 : List Loc), MW G b σ H1 → va_S (mB b) H0 H1 locs1 → W p l e R s m args below meth c H1 locs1 0 0 Q (F0 m (pc + 3) ls (.int x :: rest))) : W p l e R s m args below meth c H locs 0 0 Q (F0 m pc ls (.ref b :: rest)) :=
  m_cVi (As := []) S hK hM hS (metX6_lastHour hf) (cwV 0 S.2.2.2.2 (lw_V q2508 q2510 qs149 q179 q2511) rfl rfl rfl (by decide +kernel) hR) ⟨Nat.zero_le _, Nat.zero_le _⟩ rfl hsize rfl hr hdg kk
/-! isAsTold(I)Z -/
abbrev rmX6_isAsTold : Room := { frames := 8, cells := 0, slots := 0, locals := 161 }
def fX6_isAsTold_96 (k15 : MS → Int32 → Int32 → Int32 → Option (MS × Int32)) (k33 : MS → Int32 → Int32 → Int32 → Int32 → Option (MS × Int32)) (σ : MS) (a2 : Int32) (a3 : Int32) (a4 : Int32) (a5 : Int32) : Option (MS × Int32) :=
  k33 σ a2 a3 a4 (a5 + (1 : Int32))
def fX6_isAsTold_91 (k15 : MS → Int32 → Int32 → Int32 → Option (MS × Int32)) (k33 : MS → Int32 → Int32 → Int32 → Int32 → Option (MS × Int32)) (σ : MS) (a2 : Int32) (a3 : Int32) (a4 : Int32) (a5 : Int32) (t0 : Int32) (t1 : Int32) : Option (MS × Int32) :=
  if t0 = t1 then
    fX6_isAsTold_96 k15 k33 σ a2 a3 a4 a5
  else
  fX6_isAsTold_96 k15 k33 σ (0 : Int32) a3 a4 a5
def fX6_isAsTold_33 (k15 : MS → Int32 → Int32 → Int32 → Option (MS × Int32)) : Nat → MS → Int32 → Int32 → Int32 → Int32 → Option (MS × Int32)
  | 0, _, _, _, _, _ => none
  | n + 1, σ, a2, a3, a4, a5 =>
    if (σ.1 65) ≤ a5 then
      k15 σ a2 a3 (a4 + (1 : Int32))
    else
    (aI σ 66 ((3 : Int32) * a5)).bind fun v2 =>
    if v2 = a4 then
      (aI σ 66 (((3 : Int32) * a5) + (1 : Int32))).bind fun v4 =>
      (fX6_isSeenNow σ v4).bind fun x5 =>
      (aI σ 66 (((3 : Int32) * a5) + (2 : Int32))).bind fun v6 =>
      if v6 = (1 : Int32) then
        fX6_isAsTold_91 k15 (fun σ' b2 b3 b4 b5 => fX6_isAsTold_33 k15 n σ' b2 b3 b4 b5) σ a2 a3 a4 a5 x5 (1 : Int32)
      else
      fX6_isAsTold_91 k15 (fun σ' b2 b3 b4 b5 => fX6_isAsTold_33 k15 n σ' b2 b3 b4 b5) σ a2 a3 a4 a5 x5 (0 : Int32)
    else
    fX6_isAsTold_96 k15 (fun σ' b2 b3 b4 b5 => fX6_isAsTold_33 k15 n σ' b2 b3 b4 b5) σ a2 a3 a4 a5
def fX6_isAsTold_108 (σ : MS) (a2 : Int32) : Option (MS × Int32) :=
  (fX6_triesAnew σ).bind fun x1 =>
  (zr a2).bind fun z2 =>
  some (x1, a2)
def fX6_isAsTold_15 : Nat → MS → Int32 → Int32 → Int32 → Option (MS × Int32)
  | 0, _, _, _, _ => none
  | n + 1, σ, a2, a3, a4 =>
    if a3 < a4 then
      fX6_isAsTold_108 σ a2
    else
    if a2 = 0 then
      fX6_isAsTold_108 σ a2
    else
    (fX6_hourGoes σ).bind fun x3 =>
    fX6_isAsTold_33 (fun σ' b2 b3 b4 => fX6_isAsTold_15 n σ' b2 b3 b4) FU x3.1 a2 a3 a4 (0 : Int32)
def fX6_isAsTold (σ : MS) (a1 : Int32) : Option (MS × Int32) :=
  (fX6_lastHour σ).bind fun x1 =>
  (fX6_pressAll σ a1).bind fun x2 =>
  fX6_isAsTold_15 FU x2 (1 : Int32) x1 (0 : Int32)
set_option maxHeartbeats 4000000 in
theorem wX6_isAsTold_96 {p : Program} {l : Launch} {e : Env} {s : State} {m : MethodId} {args : Array Value} {below : List Frame} {meth : Method} {c : Code} {G : mG} {b : Nat} (S : CallFix p m c cX6_isAsTold 6 s args lw_all RX6) (hr : meth.sig.returnType = some .boolean) (hlk : meth.locks = false) (hK : mK G s) {x : MS × Int32} {k15 : MS → Int32 → Int32 → Int32 → Option (MS × Int32)} (hk15 : ∀ σ a2 a3 a4, k15 σ a2 a3 a4 = some x → mGo p l e rmX6_isAsTold s m args below meth c G b (MQ below (mQi G b x) args s 0 0 (mB b)) 6 15 [(0, .ref b), (2, .int a2), (3, .int a3), (4, .int a4)] [] σ) {k33 : MS → Int32 → Int32 → Int32 → Int32 → Option (MS × Int32)} (hk33 : ∀ σ a2 a3 a4 a5, k33 σ a2 a3 a4 a5 = some x → mGo p l e rmX6_isAsTold s m args below meth c G b (MQ below (mQi G b x) args s 0 0 (mB b)) 6 33 [(0, .ref b), (2, .int a2), (3, .int a3), (4, .int a4), (5, .int a5)] [] σ) : ∀ (σ : MS) (a2 : Int32) (a3 : Int32) (a4 : Int32) (a5 : Int32), fX6_isAsTold_96 k15 k33 σ a2 a3 a4 a5 = some x → mGo p l e rmX6_isAsTold s m args below meth c G b (MQ below (mQi G b x) args s 0 0 (mB b)) 6 96 [(0, .ref b), (2, .int a2), (3, .int a3), (4, .int a4), (5, .int a5)] [] σ := by
  obtain ⟨hx, hb, hml, hown, hts⟩ := id S
  intro σ a2 a3 a4 a5 h H locs hM hS ls hl
  unfold fX6_isAsTold_96 at h
  refine lv_iinc (v := (a5 + (1 : Int32))) (lv' := [(5, .int (a5 + (1 : Int32))), (0, .ref b), (2, .int a2), (3, .int a3), (4, .int a4)]) hx hb dX6_isAsTold_96 hl (k := 4) rfl rfl (by decide) rfl (fun ls hl => ?_)
  refine lv_goto (tgt := 33) hx hb dX6_isAsTold_99 (by decide) ?_
  exact hk33 σ a2 a3 a4 (a5 + (1 : Int32)) h _ _ hM hS _ (lv_sub hl [1, 2, 3, 4, 0] rfl)
set_option maxHeartbeats 4000000 in
theorem wX6_isAsTold_91 {p : Program} {l : Launch} {e : Env} {s : State} {m : MethodId} {args : Array Value} {below : List Frame} {meth : Method} {c : Code} {G : mG} {b : Nat} (S : CallFix p m c cX6_isAsTold 6 s args lw_all RX6) (hr : meth.sig.returnType = some .boolean) (hlk : meth.locks = false) (hK : mK G s) {x : MS × Int32} {k15 : MS → Int32 → Int32 → Int32 → Option (MS × Int32)} (hk15 : ∀ σ a2 a3 a4, k15 σ a2 a3 a4 = some x → mGo p l e rmX6_isAsTold s m args below meth c G b (MQ below (mQi G b x) args s 0 0 (mB b)) 6 15 [(0, .ref b), (2, .int a2), (3, .int a3), (4, .int a4)] [] σ) {k33 : MS → Int32 → Int32 → Int32 → Int32 → Option (MS × Int32)} (hk33 : ∀ σ a2 a3 a4 a5, k33 σ a2 a3 a4 a5 = some x → mGo p l e rmX6_isAsTold s m args below meth c G b (MQ below (mQi G b x) args s 0 0 (mB b)) 6 33 [(0, .ref b), (2, .int a2), (3, .int a3), (4, .int a4), (5, .int a5)] [] σ) : ∀ (σ : MS) (a2 : Int32) (a3 : Int32) (a4 : Int32) (a5 : Int32) (t0 : Int32) (t1 : Int32), fX6_isAsTold_91 k15 k33 σ a2 a3 a4 a5 t0 t1 = some x → mGo p l e rmX6_isAsTold s m args below meth c G b (MQ below (mQi G b x) args s 0 0 (mB b)) 6 91 [(0, .ref b), (2, .int a2), (3, .int a3), (4, .int a4), (5, .int a5)] [.int t1, .int t0] σ := by
  obtain ⟨hx, hb, hml, hown, hts⟩ := id S
  intro σ a2 a3 a4 a5 t0 t1 h H locs hM hS ls hl
  unfold fX6_isAsTold_91 at h
  refine lv_icmp_eq (tgt := 96) hx hb dX6_isAsTold_91 (by decide) (fun c1 => ?_) (fun c1 => ?_)
  · replace h := it c1 h
    exact wX6_isAsTold_96 S hr hlk hK hk15 hk33 σ a2 a3 a4 a5 h _ _ hM hS _ (lv_sub hl [0, 1, 2, 3, 4] rfl)
  replace h := ie c1 h
  refine lv_iconst (v := (0 : Int32)) hx hb dX6_isAsTold_94 (by decide) ?_
  refine lv_istore_n (lv' := [(2, .int (0 : Int32)), (0, .ref b), (3, .int a3), (4, .int a4), (5, .int a5)]) hx hb dX6_isAsTold_95 rfl hl (by decide) rfl (fun ls hl => ?_)
  exact wX6_isAsTold_96 S hr hlk hK hk15 hk33 σ (0 : Int32) a3 a4 a5 h _ _ hM hS _ (lv_sub hl [1, 0, 2, 3, 4] rfl)
set_option maxHeartbeats 4000000 in
theorem wX6_isAsTold_33 {p : Program} {l : Launch} {e : Env} {s : State} {m : MethodId} {args : Array Value} {below : List Frame} {meth : Method} {c : Code} {G : mG} {b : Nat} (S : CallFix p m c cX6_isAsTold 6 s args lw_all RX6) (hr : meth.sig.returnType = some .boolean) (hlk : meth.locks = false) (hK : mK G s) {x : MS × Int32} {k15 : MS → Int32 → Int32 → Int32 → Option (MS × Int32)} (hk15 : ∀ σ a2 a3 a4, k15 σ a2 a3 a4 = some x → mGo p l e rmX6_isAsTold s m args below meth c G b (MQ below (mQi G b x) args s 0 0 (mB b)) 6 15 [(0, .ref b), (2, .int a2), (3, .int a3), (4, .int a4)] [] σ) : ∀ (n : Nat) (σ : MS) (a2 : Int32) (a3 : Int32) (a4 : Int32) (a5 : Int32), fX6_isAsTold_33 k15 n σ a2 a3 a4 a5 = some x → mGo p l e rmX6_isAsTold s m args below meth c G b (MQ below (mQi G b x) args s 0 0 (mB b)) 6 33 [(0, .ref b), (2, .int a2), (3, .int a3), (4, .int a4), (5, .int a5)] [] σ := by
  obtain ⟨hx, hb, hml, hown, hts⟩ := id S
  intro n
  induction n with
  | zero => intro σ a2 a3 a4 a5 h; cases h
  | succ n ih =>
    intro σ a2 a3 a4 a5 h H locs hM hS ls hl
    rw [fX6_isAsTold_33] at h
    refine lv_iload hx hb dX6_isAsTold_33 (lv_at hl 4 rfl) ?_
    refine lv_aload_n hx hb dX6_isAsTold_35 rfl (lv_at hl 0 rfl) ?_
    refine m_get S hK hM 65 (Nat.le_of_ble_eq_true rfl) q1797 (v := .int (σ.1 65)) rfl dX6_isAsTold_36 ?_
    refine lv_icmp_ge (tgt := 102) hx hb dX6_isAsTold_39 (by decide) (fun c1 => ?_) (fun c1 => ?_)
    · replace h := it c1 h
      refine lv_iinc (v := (a4 + (1 : Int32))) (lv' := [(4, .int (a4 + (1 : Int32))), (0, .ref b), (2, .int a2), (3, .int a3), (5, .int a5)]) hx hb dX6_isAsTold_102 hl (k := 3) rfl rfl (by decide) rfl (fun ls hl => ?_)
      refine lv_goto (tgt := 15) hx hb dX6_isAsTold_105 (by decide) ?_
      exact hk15 σ a2 a3 (a4 + (1 : Int32)) h _ _ hM hS _ (lv_sub hl [1, 2, 3, 0] rfl)
    replace h := ie c1 h
    refine lv_aload_n hx hb dX6_isAsTold_42 rfl (lv_at hl 0 rfl) ?_
    refine m_get S hK hM 66 (Nat.le_of_ble_eq_true rfl) q1798 (v := .ref (ma b 66)) rfl dX6_isAsTold_43 ?_
    refine lv_iconst (v := (3 : Int32)) hx hb dX6_isAsTold_46 (by decide) ?_
    refine lv_iload hx hb dX6_isAsTold_47 (lv_at hl 4 rfl) ?_
    refine lv_imul hx hb dX6_isAsTold_49 ?_
    replace h := ob h
    obtain ⟨v2, hv2, h⟩ := h
    refine m_iald S hK hM 66 rfl hv2 dX6_isAsTold_50 ?_
    refine lv_iload hx hb dX6_isAsTold_51 (lv_at hl 3 rfl) ?_
    refine lv_icmp_ne (tgt := 96) hx hb dX6_isAsTold_53 (by decide) (fun c3 => ?_) (fun c3 => ?_)
    · replace h := ie c3 h
      exact wX6_isAsTold_96 S hr hlk hK hk15 ih σ a2 a3 a4 a5 h _ _ hM hS _ (lv_sub hl [0, 1, 2, 3, 4] rfl)
    replace h := it c3 h
    refine lv_aload_n hx hb dX6_isAsTold_56 rfl (lv_at hl 0 rfl) ?_
    refine lv_aload_n hx hb dX6_isAsTold_57 rfl (lv_at hl 0 rfl) ?_
    refine m_get S hK hM 66 (Nat.le_of_ble_eq_true rfl) q1798 (v := .ref (ma b 66)) rfl dX6_isAsTold_58 ?_
    refine lv_iconst (v := (3 : Int32)) hx hb dX6_isAsTold_61 (by decide) ?_
    refine lv_iload hx hb dX6_isAsTold_62 (lv_at hl 4 rfl) ?_
    refine lv_imul hx hb dX6_isAsTold_64 ?_
    refine lv_iconst (v := (1 : Int32)) hx hb dX6_isAsTold_65 (by decide) ?_
    refine lv_iadd hx hb dX6_isAsTold_66 ?_
    replace h := ob h
    obtain ⟨v4, hv4, h⟩ := h
    refine m_iald S hK hM 66 rfl hv4 dX6_isAsTold_67 ?_
    replace h := ob h
    obtain ⟨x5, hx5, h⟩ := h
    refine kX6_isSeenNow S hK hM hS hx5 ⟨Nat.le_of_ble_eq_true rfl, Nat.le_of_ble_eq_true rfl⟩ hl.1 (Nat.le_of_ble_eq_true rfl) dX6_isAsTold_68 (fun H locs hM hS => ?_)
    refine lv_aload_n hx hb dX6_isAsTold_71 rfl (lv_at hl 0 rfl) ?_
    refine m_get S hK hM 66 (Nat.le_of_ble_eq_true rfl) q1798 (v := .ref (ma b 66)) rfl dX6_isAsTold_72 ?_
    refine lv_iconst (v := (3 : Int32)) hx hb dX6_isAsTold_75 (by decide) ?_
    refine lv_iload hx hb dX6_isAsTold_76 (lv_at hl 4 rfl) ?_
    refine lv_imul hx hb dX6_isAsTold_78 ?_
    refine lv_iconst (v := (2 : Int32)) hx hb dX6_isAsTold_79 (by decide) ?_
    refine lv_iadd hx hb dX6_isAsTold_80 ?_
    replace h := ob h
    obtain ⟨v6, hv6, h⟩ := h
    refine m_iald S hK hM 66 rfl hv6 dX6_isAsTold_81 ?_
    refine lv_iconst (v := (1 : Int32)) hx hb dX6_isAsTold_82 (by decide) ?_
    refine lv_icmp_ne (tgt := 90) hx hb dX6_isAsTold_83 (by decide) (fun c7 => ?_) (fun c7 => ?_)
    · replace h := ie c7 h
      refine lv_iconst (v := (0 : Int32)) hx hb dX6_isAsTold_90 (by decide) ?_
      exact wX6_isAsTold_91 S hr hlk hK hk15 ih σ a2 a3 a4 a5 x5 (0 : Int32) h _ _ hM hS _ (lv_sub hl [0, 1, 2, 3, 4] rfl)
    replace h := it c7 h
    refine lv_iconst (v := (1 : Int32)) hx hb dX6_isAsTold_86 (by decide) ?_
    refine lv_goto (tgt := 91) hx hb dX6_isAsTold_87 (by decide) ?_
    exact wX6_isAsTold_91 S hr hlk hK hk15 ih σ a2 a3 a4 a5 x5 (1 : Int32) h _ _ hM hS _ (lv_sub hl [0, 1, 2, 3, 4] rfl)
set_option maxHeartbeats 4000000 in
theorem wX6_isAsTold_108 {p : Program} {l : Launch} {e : Env} {s : State} {m : MethodId} {args : Array Value} {below : List Frame} {meth : Method} {c : Code} {G : mG} {b : Nat} (S : CallFix p m c cX6_isAsTold 6 s args lw_all RX6) (hr : meth.sig.returnType = some .boolean) (hlk : meth.locks = false) (hK : mK G s) {x : MS × Int32} : ∀ (σ : MS) (a2 : Int32), fX6_isAsTold_108 σ a2 = some x → mGo p l e rmX6_isAsTold s m args below meth c G b (MQ below (mQi G b x) args s 0 0 (mB b)) 6 108 [(0, .ref b), (2, .int a2)] [] σ := by
  obtain ⟨hx, hb, hml, hown, hts⟩ := id S
  intro σ a2 h H locs hM hS ls hl
  unfold fX6_isAsTold_108 at h
  refine lv_aload_n hx hb dX6_isAsTold_108 rfl (lv_at hl 0 rfl) ?_
  replace h := ob h
  obtain ⟨x1, hx1, h⟩ := h
  refine kX6_triesAnew S hK hM hS hx1 ⟨Nat.le_of_ble_eq_true rfl, Nat.le_of_ble_eq_true rfl⟩ hl.1 (Nat.le_of_ble_eq_true rfl) dX6_isAsTold_109 (fun H locs hM hS => ?_)
  refine lv_iload_n hx hb dX6_isAsTold_112 rfl (lv_at hl 1 rfl) ?_
  replace h := ob h
  obtain ⟨z2, hz2, h⟩ := h
  obtain ⟨hz2a, -, -⟩ := zr_e hz2
  exact m_iret S hr hlk hz2a hM hS h dX6_isAsTold_113
set_option maxHeartbeats 4000000 in
theorem wX6_isAsTold_15 {p : Program} {l : Launch} {e : Env} {s : State} {m : MethodId} {args : Array Value} {below : List Frame} {meth : Method} {c : Code} {G : mG} {b : Nat} (S : CallFix p m c cX6_isAsTold 6 s args lw_all RX6) (hr : meth.sig.returnType = some .boolean) (hlk : meth.locks = false) (hK : mK G s) {x : MS × Int32} : ∀ (n : Nat) (σ : MS) (a2 : Int32) (a3 : Int32) (a4 : Int32), fX6_isAsTold_15 n σ a2 a3 a4 = some x → mGo p l e rmX6_isAsTold s m args below meth c G b (MQ below (mQi G b x) args s 0 0 (mB b)) 6 15 [(0, .ref b), (2, .int a2), (3, .int a3), (4, .int a4)] [] σ := by
  obtain ⟨hx, hb, hml, hown, hts⟩ := id S
  intro n
  induction n with
  | zero => intro σ a2 a3 a4 h; cases h
  | succ n ih =>
    intro σ a2 a3 a4 h H locs hM hS ls hl
    rw [fX6_isAsTold_15] at h
    refine lv_iload hx hb dX6_isAsTold_15 (lv_at hl 3 rfl) ?_
    refine lv_iload_n hx hb dX6_isAsTold_17 rfl (lv_at hl 2 rfl) ?_
    refine lv_icmp_gt (tgt := 108) hx hb dX6_isAsTold_18 (by decide) (fun c1 => ?_) (fun c1 => ?_)
    · replace h := it c1 h
      exact wX6_isAsTold_108 S hr hlk hK σ a2 h _ _ hM hS _ (lv_sub hl [0, 1] rfl)
    replace h := ie c1 h
    refine lv_iload_n hx hb dX6_isAsTold_21 rfl (lv_at hl 1 rfl) ?_
    refine lv_if_eq (tgt := 108) hx hb dX6_isAsTold_22 (by decide) (fun c2 => ?_) (fun c2 => ?_)
    · replace h := it c2 h
      exact wX6_isAsTold_108 S hr hlk hK σ a2 h _ _ hM hS _ (lv_sub hl [0, 1] rfl)
    replace h := ie c2 h
    refine lv_aload_n hx hb dX6_isAsTold_25 rfl (lv_at hl 0 rfl) ?_
    replace h := ob h
    obtain ⟨x3, hx3, h⟩ := h
    refine kX6_hourGoes S hK hM hS hx3 ⟨Nat.le_of_ble_eq_true rfl, Nat.le_of_ble_eq_true rfl⟩ hl.1 (Nat.le_of_ble_eq_true rfl) dX6_isAsTold_26 (fun H locs hM hS => ?_)
    refine lv_pop hx hb dX6_isAsTold_29 rfl ?_
    refine lv_iconst (v := (0 : Int32)) hx hb dX6_isAsTold_30 (by decide) ?_
    refine lv_istore (lv' := [(5, .int (0 : Int32)), (0, .ref b), (2, .int a2), (3, .int a3), (4, .int a4)]) hx hb dX6_isAsTold_31 hl (by decide) rfl (fun ls hl => ?_)
    exact wX6_isAsTold_33 S hr hlk hK ih FU x3.1 a2 a3 a4 (0 : Int32) h _ _ hM hS _ (lv_sub hl [1, 2, 3, 4, 0] rfl)
set_option maxHeartbeats 4000000 in
theorem metX6_isAsTold {l : Launch} {G : mG} {b : Nat} {σ : MS} {a1 : Int32} {x : MS × Int32} (h : fX6_isAsTold σ a1 = some x) : Met l yX6_isAsTold (ws_ yX6_isAsTold cX6_isAsTold 6 (some .boolean)) rmX6_isAsTold (mP G b σ [.ref b, .int a1]) (mQi G b x) 0 0 (mB b) := by
  refine m_entry (by decide) rfl (Nat.le_of_ble_eq_true rfl) ?_
  intro p e s m below meth c S hr hlk hK hM hS ls hl
  replace hl : lv_has ls 6 [(0, .ref b), (1, .int a1)] := hl
  obtain ⟨hx, hb, hml, hown, hts⟩ := id S
  unfold fX6_isAsTold at h
  refine lv_iconst (v := (1 : Int32)) hx hb dX6_isAsTold_0 (by decide) ?_
  refine lv_istore_n (lv' := [(2, .int (1 : Int32)), (0, .ref b), (1, .int a1)]) hx hb dX6_isAsTold_1 rfl hl (by decide) rfl (fun ls hl => ?_)
  refine lv_aload_n hx hb dX6_isAsTold_2 rfl (lv_at hl 1 rfl) ?_
  replace h := ob h
  obtain ⟨x1, hx1, h⟩ := h
  refine kX6_lastHour S hK hM hS hx1 ⟨Nat.le_of_ble_eq_true rfl, Nat.le_of_ble_eq_true rfl⟩ hl.1 (Nat.le_of_ble_eq_true rfl) dX6_isAsTold_3 (fun H locs hM hS => ?_)
  refine lv_istore_n (lv' := [(3, .int x1), (2, .int (1 : Int32)), (0, .ref b), (1, .int a1)]) hx hb dX6_isAsTold_6 rfl hl (by decide) rfl (fun ls hl => ?_)
  refine lv_aload_n hx hb dX6_isAsTold_7 rfl (lv_at hl 2 rfl) ?_
  refine lv_iload_n hx hb dX6_isAsTold_8 rfl (lv_at hl 3 rfl) ?_
  replace h := ob h
  obtain ⟨x2, hx2, h⟩ := h
  refine kX6_pressAll S hK hM hS hx2 ⟨Nat.le_of_ble_eq_true rfl, Nat.le_of_ble_eq_true rfl⟩ hl.1 (Nat.le_of_ble_eq_true rfl) dX6_isAsTold_9 (fun H locs hM hS => ?_)
  refine lv_iconst (v := (0 : Int32)) hx hb dX6_isAsTold_12 (by decide) ?_
  refine lv_istore (lv' := [(4, .int (0 : Int32)), (3, .int x1), (2, .int (1 : Int32)), (0, .ref b), (1, .int a1)]) hx hb dX6_isAsTold_13 hl (by decide) rfl (fun ls hl => ?_)
  exact wX6_isAsTold_15 S hr hlk hK FU x2 (1 : Int32) x1 (0 : Int32) h _ _ hM hS _ (lv_sub hl [3, 2, 1, 0] rfl)
theorem kX6_isAsTold {p : Program} {l : Launch} {e : Env} {R : Room} {s : State} {m : MethodId} {args : Array Value} {below : List Frame} {meth : Method} {c : Code} {H H0 : Heap} {locs : List Loc} {Q : State → Prop} {cc : ByteArray} {nL pc : Nat} {ls : Array Slot} {rest : List Value} {G : mG} {b : Nat} {σ : MS} {a1 : Int32} {x : MS × Int32} (S : CallFix p m c cc nL s args lw_all RX6) (hK : mK G s) (hM : MW G b σ H) (hS : va_S (mB b) H0 H locs) (hf : fX6_isAsTold σ a1 = some x) (hR : rmX6_isAsTold.frames + 1 ≤ R.frames ∧ 8 + (6 + 11) + rmX6_isAsTold.locals ≤ R.locals) (hsize : ls.size = nL) (hr : (rest.map fun v => v.category).sum ≤ 8) (hdg : decode cc pc = .ok (.invokevirtual 569, 3)) (kk : ∀ (H1 : Heap) (locs1 : List Loc), MW G b x.1 H1 → va_S (mB b) H0 H1 locs1 → W p l e R s m args below meth c H1 locs1 0 0 Q (F0 m (pc + 3) ls (.int x.2 :: rest))) : W p l e R s m args below meth c H locs 0 0 Q (F0 m pc ls (.int a1 :: .ref b :: rest)) :=
  m_cVi (As := [.int a1]) S hK hM hS (metX6_isAsTold hf) (cwV 1 S.2.2.2.2 (lw_V q2512 q2514 qs150 q179 q2515) rfl rfl rfl (by decide +kernel) hR) ⟨Nat.zero_le _, Nat.zero_le _⟩ rfl hsize rfl hr hdg kk
/-! pressed(I)I -/
abbrev rmX6_pressed : Room := { frames := 9, cells := 0, slots := 0, locals := 186 }
def fX6_pressed_96 (k58 : MS → Int32 → Int32 → Int32 → Int32 → Int32 → Option (MS × Int32)) (σ : MS) (a1 : Int32) (a2 : Int32) (a3 : Int32) (a4 : Int32) (a5 : Int32) : Option (MS × Int32) :=
  k58 σ a1 a2 a3 a4 (a5 + (1 : Int32))
def fX6_pressed_58 : Nat → MS → Int32 → Int32 → Int32 → Int32 → Int32 → Option (MS × Int32)
  | 0, _, _, _, _, _, _ => none
  | n + 1, σ, a1, a2, a3, a4, a5 =>
    (fX6_personMany σ).bind fun x1 =>
    if ((1 : Int32) <<< (x1 &&& 31)) ≤ a5 then
      (fX6_takesBack σ).bind fun x3 =>
      if a1 = 0 then
        some (x3, a2)
      else
      if a1 = (1 : Int32) then
        if a2 = 0 then
          some (x3, (0 : Int32))
        else
        some (x3, a3)
      else
      some (x3, a4)
    else
    (fX6_isAsTold σ a5).bind fun x7 =>
    if x7.2 = 0 then
      fX6_pressed_96 (fun σ' b1 b2 b3 b4 b5 => fX6_pressed_58 n σ' b1 b2 b3 b4 b5) x7.1 a1 a2 a3 a4 a5
    else
    fX6_pressed_96 (fun σ' b1 b2 b3 b4 b5 => fX6_pressed_58 n σ' b1 b2 b3 b4 b5) x7.1 a1 (a2 + (1 : Int32)) (a3 &&& a5) (a4 ||| a5) a5
def fX6_pressed_37 (σ : MS) (a1 : Int32) : Option (MS × Int32) :=
  (fX6_personMany σ).bind fun x1 =>
  (fX6_putsAside σ).bind fun x2 =>
  fX6_pressed_58 FU x2 a1 (0 : Int32) (((1 : Int32) <<< (x1 &&& 31)) - (1 : Int32)) (0 : Int32) (0 : Int32)
def fX6_pressed (σ : MS) (a1 : Int32) : Option (MS × Int32) :=
  (fX6_isIn σ a1.toInt64 (0 : Int64) (2 : Int64)).bind fun x1 =>
  if x1 = 0 then
    some (σ, (-1 : Int32))
  else
  if (σ.1 65) ≤ 0 then
    fX6_pressed_37 σ a1
  else
  (fX6_lastHour σ).bind fun x4 =>
  (fX6_isAhead σ (x4 + (1 : Int32)) (0 : Int32) (24 : Int32)).bind fun x5 =>
  if x5 = 0 then
    some (σ, (-1 : Int32))
  else
  fX6_pressed_37 σ a1
set_option maxHeartbeats 4000000 in
theorem wX6_pressed_96 {p : Program} {l : Launch} {e : Env} {s : State} {m : MethodId} {args : Array Value} {below : List Frame} {meth : Method} {c : Code} {G : mG} {b : Nat} (S : CallFix p m c cX6_pressed 6 s args lw_all RX6) (hr : meth.sig.returnType = some .int) (hlk : meth.locks = false) (hK : mK G s) {x : MS × Int32} {k58 : MS → Int32 → Int32 → Int32 → Int32 → Int32 → Option (MS × Int32)} (hk58 : ∀ σ a1 a2 a3 a4 a5, k58 σ a1 a2 a3 a4 a5 = some x → mGo p l e rmX6_pressed s m args below meth c G b (MQ below (mQi G b x) args s 0 0 (mB b)) 6 58 [(0, .ref b), (1, .int a1), (2, .int a2), (3, .int a3), (4, .int a4), (5, .int a5)] [] σ) : ∀ (σ : MS) (a1 : Int32) (a2 : Int32) (a3 : Int32) (a4 : Int32) (a5 : Int32), fX6_pressed_96 k58 σ a1 a2 a3 a4 a5 = some x → mGo p l e rmX6_pressed s m args below meth c G b (MQ below (mQi G b x) args s 0 0 (mB b)) 6 96 [(0, .ref b), (1, .int a1), (2, .int a2), (3, .int a3), (4, .int a4), (5, .int a5)] [] σ := by
  obtain ⟨hx, hb, hml, hown, hts⟩ := id S
  intro σ a1 a2 a3 a4 a5 h H locs hM hS ls hl
  unfold fX6_pressed_96 at h
  refine lv_iinc (v := (a5 + (1 : Int32))) (lv' := [(5, .int (a5 + (1 : Int32))), (0, .ref b), (1, .int a1), (2, .int a2), (3, .int a3), (4, .int a4)]) hx hb dX6_pressed_96 hl (k := 5) rfl rfl (by decide) rfl (fun ls hl => ?_)
  refine lv_goto (tgt := 58) hx hb dX6_pressed_99 (by decide) ?_
  exact hk58 σ a1 a2 a3 a4 (a5 + (1 : Int32)) h _ _ hM hS _ (lv_sub hl [1, 2, 3, 4, 5, 0] rfl)
set_option maxHeartbeats 4000000 in
theorem wX6_pressed_58 {p : Program} {l : Launch} {e : Env} {s : State} {m : MethodId} {args : Array Value} {below : List Frame} {meth : Method} {c : Code} {G : mG} {b : Nat} (S : CallFix p m c cX6_pressed 6 s args lw_all RX6) (hr : meth.sig.returnType = some .int) (hlk : meth.locks = false) (hK : mK G s) {x : MS × Int32} : ∀ (n : Nat) (σ : MS) (a1 : Int32) (a2 : Int32) (a3 : Int32) (a4 : Int32) (a5 : Int32), fX6_pressed_58 n σ a1 a2 a3 a4 a5 = some x → mGo p l e rmX6_pressed s m args below meth c G b (MQ below (mQi G b x) args s 0 0 (mB b)) 6 58 [(0, .ref b), (1, .int a1), (2, .int a2), (3, .int a3), (4, .int a4), (5, .int a5)] [] σ := by
  obtain ⟨hx, hb, hml, hown, hts⟩ := id S
  intro n
  induction n with
  | zero => intro σ a1 a2 a3 a4 a5 h; cases h
  | succ n ih =>
    intro σ a1 a2 a3 a4 a5 h H locs hM hS ls hl
    rw [fX6_pressed_58] at h
    refine lv_iload hx hb dX6_pressed_58 (lv_at hl 5 rfl) ?_
    refine lv_iconst (v := (1 : Int32)) hx hb dX6_pressed_60 (by decide) ?_
    refine lv_aload_n hx hb dX6_pressed_61 rfl (lv_at hl 0 rfl) ?_
    replace h := ob h
    obtain ⟨x1, hx1, h⟩ := h
    refine kX6_personMany S hK hM hS hx1 ⟨Nat.le_of_ble_eq_true rfl, Nat.le_of_ble_eq_true rfl⟩ hl.1 (Nat.le_of_ble_eq_true rfl) dX6_pressed_62 (fun H locs hM hS => ?_)
    refine lv_ishl hx hb dX6_pressed_65 ?_
    refine lv_icmp_ge (tgt := 102) hx hb dX6_pressed_66 (by decide) (fun c2 => ?_) (fun c2 => ?_)
    rotate_left 1
    · replace h := ie c2 h
      refine lv_aload_n hx hb dX6_pressed_69 rfl (lv_at hl 0 rfl) ?_
      refine lv_iload hx hb dX6_pressed_70 (lv_at hl 5 rfl) ?_
      replace h := ob h
      obtain ⟨x7, hx7, h⟩ := h
      refine kX6_isAsTold S hK hM hS hx7 ⟨Nat.le_of_ble_eq_true rfl, Nat.le_of_ble_eq_true rfl⟩ hl.1 (Nat.le_of_ble_eq_true rfl) dX6_pressed_72 (fun H locs hM hS => ?_)
      refine lv_if_ne (tgt := 81) hx hb dX6_pressed_75 (by decide) (fun c8 => ?_) (fun c8 => ?_)
      rotate_left 1
      · replace h := it c8 h
        refine lv_goto (tgt := 96) hx hb dX6_pressed_78 (by decide) ?_
        exact wX6_pressed_96 S hr hlk hK ih x7.1 a1 a2 a3 a4 a5 h _ _ hM hS _ (lv_sub hl [0, 1, 2, 3, 4, 5] rfl)
      replace h := ie c8 h
      refine lv_iinc (v := (a2 + (1 : Int32))) (lv' := [(2, .int (a2 + (1 : Int32))), (0, .ref b), (1, .int a1), (3, .int a3), (4, .int a4), (5, .int a5)]) hx hb dX6_pressed_81 hl (k := 2) rfl rfl (by decide) rfl (fun ls hl => ?_)
      refine lv_iload_n hx hb dX6_pressed_84 rfl (lv_at hl 3 rfl) ?_
      refine lv_iload hx hb dX6_pressed_85 (lv_at hl 5 rfl) ?_
      refine lv_iand hx hb dX6_pressed_87 ?_
      refine lv_istore_n (lv' := [(3, .int (a3 &&& a5)), (2, .int (a2 + (1 : Int32))), (0, .ref b), (1, .int a1), (4, .int a4), (5, .int a5)]) hx hb dX6_pressed_88 rfl hl (by decide) rfl (fun ls hl => ?_)
      refine lv_iload hx hb dX6_pressed_89 (lv_at hl 4 rfl) ?_
      refine lv_iload hx hb dX6_pressed_91 (lv_at hl 5 rfl) ?_
      refine lv_ior hx hb dX6_pressed_93 ?_
      refine lv_istore (lv' := [(4, .int (a4 ||| a5)), (3, .int (a3 &&& a5)), (2, .int (a2 + (1 : Int32))), (0, .ref b), (1, .int a1), (5, .int a5)]) hx hb dX6_pressed_94 hl (by decide) rfl (fun ls hl => ?_)
      exact wX6_pressed_96 S hr hlk hK ih x7.1 a1 (a2 + (1 : Int32)) (a3 &&& a5) (a4 ||| a5) a5 h _ _ hM hS _ (lv_sub hl [3, 4, 2, 1, 0, 5] rfl)
    replace h := it c2 h
    refine lv_aload_n hx hb dX6_pressed_102 rfl (lv_at hl 0 rfl) ?_
    replace h := ob h
    obtain ⟨x3, hx3, h⟩ := h
    refine kX6_takesBack S hK hM hS hx3 ⟨Nat.le_of_ble_eq_true rfl, Nat.le_of_ble_eq_true rfl⟩ hl.1 (Nat.le_of_ble_eq_true rfl) dX6_pressed_103 (fun H locs hM hS => ?_)
    refine lv_iload_n hx hb dX6_pressed_106 rfl (lv_at hl 1 rfl) ?_
    refine lv_if_ne (tgt := 114) hx hb dX6_pressed_107 (by decide) (fun c4 => ?_) (fun c4 => ?_)
    rotate_left 1
    · replace h := it c4 h
      refine lv_iload_n hx hb dX6_pressed_110 rfl (lv_at hl 2 rfl) ?_
      refine lv_goto (tgt := 133) hx hb dX6_pressed_111 (by decide) ?_
      exact m_iret S hr hlk rfl hM hS h dX6_pressed_133
    replace h := ie c4 h
    refine lv_iload_n hx hb dX6_pressed_114 rfl (lv_at hl 1 rfl) ?_
    refine lv_iconst (v := (1 : Int32)) hx hb dX6_pressed_115 (by decide) ?_
    refine lv_icmp_ne (tgt := 131) hx hb dX6_pressed_116 (by decide) (fun c5 => ?_) (fun c5 => ?_)
    · replace h := ie c5 h
      refine lv_iload hx hb dX6_pressed_131 (lv_at hl 4 rfl) ?_
      exact m_iret S hr hlk rfl hM hS h dX6_pressed_133
    replace h := it c5 h
    refine lv_iload_n hx hb dX6_pressed_119 rfl (lv_at hl 2 rfl) ?_
    refine lv_if_ne (tgt := 127) hx hb dX6_pressed_120 (by decide) (fun c6 => ?_) (fun c6 => ?_)
    · replace h := ie c6 h
      refine lv_iload_n hx hb dX6_pressed_127 rfl (lv_at hl 3 rfl) ?_
      refine lv_goto (tgt := 133) hx hb dX6_pressed_128 (by decide) ?_
      exact m_iret S hr hlk rfl hM hS h dX6_pressed_133
    replace h := it c6 h
    refine lv_iconst (v := (0 : Int32)) hx hb dX6_pressed_123 (by decide) ?_
    refine lv_goto (tgt := 133) hx hb dX6_pressed_124 (by decide) ?_
    exact m_iret S hr hlk rfl hM hS h dX6_pressed_133
set_option maxHeartbeats 4000000 in
theorem wX6_pressed_37 {p : Program} {l : Launch} {e : Env} {s : State} {m : MethodId} {args : Array Value} {below : List Frame} {meth : Method} {c : Code} {G : mG} {b : Nat} (S : CallFix p m c cX6_pressed 6 s args lw_all RX6) (hr : meth.sig.returnType = some .int) (hlk : meth.locks = false) (hK : mK G s) {x : MS × Int32} : ∀ (σ : MS) (a1 : Int32), fX6_pressed_37 σ a1 = some x → mGo p l e rmX6_pressed s m args below meth c G b (MQ below (mQi G b x) args s 0 0 (mB b)) 6 37 [(0, .ref b), (1, .int a1)] [] σ := by
  obtain ⟨hx, hb, hml, hown, hts⟩ := id S
  intro σ a1 h H locs hM hS ls hl
  unfold fX6_pressed_37 at h
  refine lv_iconst (v := (0 : Int32)) hx hb dX6_pressed_37 (by decide) ?_
  refine lv_istore_n (lv' := [(2, .int (0 : Int32)), (0, .ref b), (1, .int a1)]) hx hb dX6_pressed_38 rfl hl (by decide) rfl (fun ls hl => ?_)
  refine lv_iconst (v := (1 : Int32)) hx hb dX6_pressed_39 (by decide) ?_
  refine lv_aload_n hx hb dX6_pressed_40 rfl (lv_at hl 1 rfl) ?_
  replace h := ob h
  obtain ⟨x1, hx1, h⟩ := h
  refine kX6_personMany S hK hM hS hx1 ⟨Nat.le_of_ble_eq_true rfl, Nat.le_of_ble_eq_true rfl⟩ hl.1 (Nat.le_of_ble_eq_true rfl) dX6_pressed_41 (fun H locs hM hS => ?_)
  refine lv_ishl hx hb dX6_pressed_44 ?_
  refine lv_iconst (v := (1 : Int32)) hx hb dX6_pressed_45 (by decide) ?_
  refine lv_isub hx hb dX6_pressed_46 ?_
  refine lv_istore_n (lv' := [(3, .int (((1 : Int32) <<< (x1 &&& 31)) - (1 : Int32))), (2, .int (0 : Int32)), (0, .ref b), (1, .int a1)]) hx hb dX6_pressed_47 rfl hl (by decide) rfl (fun ls hl => ?_)
  refine lv_iconst (v := (0 : Int32)) hx hb dX6_pressed_48 (by decide) ?_
  refine lv_istore (lv' := [(4, .int (0 : Int32)), (3, .int (((1 : Int32) <<< (x1 &&& 31)) - (1 : Int32))), (2, .int (0 : Int32)), (0, .ref b), (1, .int a1)]) hx hb dX6_pressed_49 hl (by decide) rfl (fun ls hl => ?_)
  refine lv_aload_n hx hb dX6_pressed_51 rfl (lv_at hl 3 rfl) ?_
  replace h := ob h
  obtain ⟨x2, hx2, h⟩ := h
  refine kX6_putsAside S hK hM hS hx2 ⟨Nat.le_of_ble_eq_true rfl, Nat.le_of_ble_eq_true rfl⟩ hl.1 (Nat.le_of_ble_eq_true rfl) dX6_pressed_52 (fun H locs hM hS => ?_)
  refine lv_iconst (v := (0 : Int32)) hx hb dX6_pressed_55 (by decide) ?_
  refine lv_istore (lv' := [(5, .int (0 : Int32)), (4, .int (0 : Int32)), (3, .int (((1 : Int32) <<< (x1 &&& 31)) - (1 : Int32))), (2, .int (0 : Int32)), (0, .ref b), (1, .int a1)]) hx hb dX6_pressed_56 hl (by decide) rfl (fun ls hl => ?_)
  exact wX6_pressed_58 S hr hlk hK FU x2 a1 (0 : Int32) (((1 : Int32) <<< (x1 &&& 31)) - (1 : Int32)) (0 : Int32) (0 : Int32) h _ _ hM hS _ (lv_sub hl [4, 5, 3, 2, 1, 0] rfl)
set_option maxHeartbeats 4000000 in
theorem metX6_pressed {l : Launch} {G : mG} {b : Nat} {σ : MS} {a1 : Int32} {x : MS × Int32} (h : fX6_pressed σ a1 = some x) : Met l yX6_pressed (ws_ yX6_pressed cX6_pressed 6 (some .int)) rmX6_pressed (mP G b σ [.ref b, .int a1]) (mQi G b x) 0 0 (mB b) := by
  refine m_entry (by decide) rfl (Nat.le_of_ble_eq_true rfl) ?_
  intro p e s m below meth c S hr hlk hK hM hS ls hl
  replace hl : lv_has ls 6 [(0, .ref b), (1, .int a1)] := hl
  obtain ⟨hx, hb, hml, hown, hts⟩ := id S
  unfold fX6_pressed at h
  refine lv_iload_n hx hb dX6_pressed_0 rfl (lv_at hl 1 rfl) ?_
  refine lv_i2l (v := a1.toInt64) hx hb dX6_pressed_1 rfl ?_
  refine lv_lconst (v := (0 : Int64)) hx hb dX6_pressed_2 (by decide) ?_
  refine lv_ldc2 hx hb hown (hts _ q2277) dX6_pressed_3 ?_
  replace h := ob h
  obtain ⟨x1, hx1, h⟩ := h
  refine kX6_isIn S hK hM hS hx1 ⟨Nat.le_of_ble_eq_true rfl, Nat.le_of_ble_eq_true rfl⟩ hl.1 (Nat.le_of_ble_eq_true rfl) dX6_pressed_6 (fun H locs hM hS => ?_)
  refine lv_if_eq (tgt := 35) hx hb dX6_pressed_9 (by decide) (fun c2 => ?_) (fun c2 => ?_)
  · replace h := it c2 h
    refine lv_iconst (v := (-1 : Int32)) hx hb dX6_pressed_35 (by decide) ?_
    exact m_iret S hr hlk rfl hM hS h dX6_pressed_36
  replace h := ie c2 h
  refine lv_aload_n hx hb dX6_pressed_12 rfl (lv_at hl 0 rfl) ?_
  refine m_get S hK hM 65 (Nat.le_of_ble_eq_true rfl) q1797 (v := .int (σ.1 65)) rfl dX6_pressed_13 ?_
  refine lv_if_le (tgt := 37) hx hb dX6_pressed_16 (by decide) (fun c3 => ?_) (fun c3 => ?_)
  · replace h := it c3 h
    exact wX6_pressed_37 S hr hlk hK σ a1 h _ _ hM hS _ (lv_sub hl [0, 1] rfl)
  replace h := ie c3 h
  refine lv_aload_n hx hb dX6_pressed_19 rfl (lv_at hl 0 rfl) ?_
  refine lv_aload_n hx hb dX6_pressed_20 rfl (lv_at hl 0 rfl) ?_
  replace h := ob h
  obtain ⟨x4, hx4, h⟩ := h
  refine kX6_lastHour S hK hM hS hx4 ⟨Nat.le_of_ble_eq_true rfl, Nat.le_of_ble_eq_true rfl⟩ hl.1 (Nat.le_of_ble_eq_true rfl) dX6_pressed_21 (fun H locs hM hS => ?_)
  refine lv_iconst (v := (1 : Int32)) hx hb dX6_pressed_24 (by decide) ?_
  refine lv_iadd hx hb dX6_pressed_25 ?_
  refine lv_iconst (v := (0 : Int32)) hx hb dX6_pressed_26 (by decide) ?_
  refine lv_bipush (v := (24 : Int32)) hx hb dX6_pressed_27 (by decide) ?_
  replace h := ob h
  obtain ⟨x5, hx5, h⟩ := h
  refine kX6_isAhead S hK hM hS hx5 ⟨Nat.le_of_ble_eq_true rfl, Nat.le_of_ble_eq_true rfl⟩ hl.1 (Nat.le_of_ble_eq_true rfl) dX6_pressed_29 (fun H locs hM hS => ?_)
  refine lv_if_ne (tgt := 37) hx hb dX6_pressed_32 (by decide) (fun c6 => ?_) (fun c6 => ?_)
  · replace h := ie c6 h
    exact wX6_pressed_37 S hr hlk hK σ a1 h _ _ hM hS _ (lv_sub hl [0, 1] rfl)
  replace h := it c6 h
  refine lv_iconst (v := (-1 : Int32)) hx hb dX6_pressed_35 (by decide) ?_
  exact m_iret S hr hlk rfl hM hS h dX6_pressed_36
/-! undo()Z -/
abbrev rmX6_undo : Room := { frames := 1, cells := 0, slots := 0, locals := 0 }
def fX6_undo_21 : Nat → MS → Int32 → Option (MS × Int32)
  | 0, _, _ => none
  | n + 1, σ, a1 =>
    if (257 : Int32) ≤ a1 then
      some ((sI (sI σ 69 ((((σ.1 69) + (20 : Int32)) - (1 : Int32)) - (((σ.1 69) + (20 : Int32)) - (1 : Int32)) / (20 : Int32) * (20 : Int32))) 68 (((sI σ 69 ((((σ.1 69) + (20 : Int32)) - (1 : Int32)) - (((σ.1 69) + (20 : Int32)) - (1 : Int32)) / (20 : Int32) * (20 : Int32))).1 68) - (1 : Int32))), (1 : Int32))
    else
    (aI σ 67 (((257 : Int32) * (σ.1 69)) + a1)).bind fun v2 =>
    (tI σ 54 a1 v2).bind fun σ3 =>
    fX6_undo_21 n σ3 (a1 + (1 : Int32))
def fX6_undo (σ : MS) : Option (MS × Int32) :=
  if (σ.1 68) = 0 then
    (aI σ 9 (4 : Int32)).bind fun v2 =>
    (tI σ 9 (4 : Int32) (v2 + (1 : Int32))).bind fun σ3 =>
    some (σ3, (0 : Int32))
  else
  fX6_undo_21 FU σ (0 : Int32)
set_option maxHeartbeats 4000000 in
theorem wX6_undo_21 {p : Program} {l : Launch} {e : Env} {s : State} {m : MethodId} {args : Array Value} {below : List Frame} {meth : Method} {c : Code} {G : mG} {b : Nat} (S : CallFix p m c cX6_undo 2 s args lw_all RX6) (hr : meth.sig.returnType = some .boolean) (hlk : meth.locks = false) (hK : mK G s) {x : MS × Int32} : ∀ (n : Nat) (σ : MS) (a1 : Int32), fX6_undo_21 n σ a1 = some x → mGo p l e rmX6_undo s m args below meth c G b (MQ below (mQi G b x) args s 0 0 (mB b)) 2 21 [(0, .ref b), (1, .int a1)] [] σ := by
  obtain ⟨hx, hb, hml, hown, hts⟩ := id S
  intro n
  induction n with
  | zero => intro σ a1 h; cases h
  | succ n ih =>
    intro σ a1 h H locs hM hS ls hl
    rw [fX6_undo_21] at h
    refine lv_iload_n hx hb dX6_undo_21 rfl (lv_at hl 1 rfl) ?_
    refine lv_sipush (v := (257 : Int32)) hx hb dX6_undo_22 (by decide) ?_
    refine lv_icmp_ge (tgt := 55) hx hb dX6_undo_25 (by decide) (fun c1 => ?_) (fun c1 => ?_)
    · replace h := it c1 h
      refine lv_aload_n hx hb dX6_undo_55 rfl (lv_at hl 0 rfl) ?_
      refine lv_aload_n hx hb dX6_undo_56 rfl (lv_at hl 0 rfl) ?_
      refine m_get S hK hM 69 (Nat.le_of_ble_eq_true rfl) q1801 (v := .int (σ.1 69)) rfl dX6_undo_57 ?_
      refine lv_bipush (v := (20 : Int32)) hx hb dX6_undo_60 (by decide) ?_
      refine lv_iadd hx hb dX6_undo_62 ?_
      refine lv_iconst (v := (1 : Int32)) hx hb dX6_undo_63 (by decide) ?_
      refine lv_isub hx hb dX6_undo_64 ?_
      refine lv_bipush (v := (20 : Int32)) hx hb dX6_undo_65 (by decide) ?_
      refine lv_irem hx hb dX6_undo_67 (by decide) ?_
      refine m_putI S hK hM hS 69 (Nat.le_of_ble_eq_true rfl) rfl q1801 rfl (ty := .int) rfl rfl rfl dX6_undo_68 (fun H locs hM hS => ?_)
      refine lv_aload_n hx hb dX6_undo_71 rfl (lv_at hl 0 rfl) ?_
      refine lv_dup hx hb dX6_undo_72 rfl ?_
      refine m_get S hK hM 68 (Nat.le_of_ble_eq_true rfl) q1800 (v := .int ((sI σ 69 ((((σ.1 69) + (20 : Int32)) - (1 : Int32)) - (((σ.1 69) + (20 : Int32)) - (1 : Int32)) / (20 : Int32) * (20 : Int32))).1 68)) rfl dX6_undo_73 ?_
      refine lv_iconst (v := (1 : Int32)) hx hb dX6_undo_76 (by decide) ?_
      refine lv_isub hx hb dX6_undo_77 ?_
      refine m_putI S hK hM hS 68 (Nat.le_of_ble_eq_true rfl) rfl q1800 rfl (ty := .int) rfl rfl rfl dX6_undo_78 (fun H locs hM hS => ?_)
      refine lv_iconst (v := (1 : Int32)) hx hb dX6_undo_81 (by decide) ?_
      exact m_iret S hr hlk rfl hM hS h dX6_undo_82
    replace h := ie c1 h
    refine lv_aload_n hx hb dX6_undo_28 rfl (lv_at hl 0 rfl) ?_
    refine m_get S hK hM 54 (Nat.le_of_ble_eq_true rfl) q1786 (v := .ref (ma b 54)) rfl dX6_undo_29 ?_
    refine lv_iload_n hx hb dX6_undo_32 rfl (lv_at hl 1 rfl) ?_
    refine lv_aload_n hx hb dX6_undo_33 rfl (lv_at hl 0 rfl) ?_
    refine m_get S hK hM 67 (Nat.le_of_ble_eq_true rfl) q1799 (v := .ref (ma b 67)) rfl dX6_undo_34 ?_
    refine lv_sipush (v := (257 : Int32)) hx hb dX6_undo_37 (by decide) ?_
    refine lv_aload_n hx hb dX6_undo_40 rfl (lv_at hl 0 rfl) ?_
    refine m_get S hK hM 69 (Nat.le_of_ble_eq_true rfl) q1801 (v := .int (σ.1 69)) rfl dX6_undo_41 ?_
    refine lv_imul hx hb dX6_undo_44 ?_
    refine lv_iload_n hx hb dX6_undo_45 rfl (lv_at hl 1 rfl) ?_
    refine lv_iadd hx hb dX6_undo_46 ?_
    replace h := ob h
    obtain ⟨v2, hv2, h⟩ := h
    refine m_iald S hK hM 67 rfl hv2 dX6_undo_47 ?_
    replace h := ob h
    obtain ⟨σ3, hσ3, h⟩ := h
    refine m_iast S hK hM hS 54 rfl hσ3 dX6_undo_48 (fun H locs hM hS => ?_)
    refine lv_iinc (v := (a1 + (1 : Int32))) (lv' := [(1, .int (a1 + (1 : Int32))), (0, .ref b)]) hx hb dX6_undo_49 hl (k := 1) rfl rfl (by decide) rfl (fun ls hl => ?_)
    refine lv_goto (tgt := 21) hx hb dX6_undo_52 (by decide) ?_
    exact ih σ3 (a1 + (1 : Int32)) h _ _ hM hS _ (lv_sub hl [1, 0] rfl)
set_option maxHeartbeats 4000000 in
theorem metX6_undo {l : Launch} {G : mG} {b : Nat} {σ : MS} {x : MS × Int32} (h : fX6_undo σ = some x) : Met l yX6_undo (ws_ yX6_undo cX6_undo 2 (some .boolean)) rmX6_undo (mP G b σ [.ref b]) (mQi G b x) 0 0 (mB b) := by
  refine m_entry (by decide) rfl (Nat.le_of_ble_eq_true rfl) ?_
  intro p e s m below meth c S hr hlk hK hM hS ls hl
  replace hl : lv_has ls 2 [(0, .ref b)] := hl
  obtain ⟨hx, hb, hml, hown, hts⟩ := id S
  unfold fX6_undo at h
  refine lv_aload_n hx hb dX6_undo_0 rfl (lv_at hl 0 rfl) ?_
  refine m_get S hK hM 68 (Nat.le_of_ble_eq_true rfl) q1800 (v := .int (σ.1 68)) rfl dX6_undo_1 ?_
  refine lv_if_ne (tgt := 19) hx hb dX6_undo_4 (by decide) (fun c1 => ?_) (fun c1 => ?_)
  · replace h := ie c1 h
    refine lv_iconst (v := (0 : Int32)) hx hb dX6_undo_19 (by decide) ?_
    refine lv_istore_n (lv' := [(1, .int (0 : Int32)), (0, .ref b)]) hx hb dX6_undo_20 rfl hl (by decide) rfl (fun ls hl => ?_)
    exact wX6_undo_21 S hr hlk hK FU σ (0 : Int32) h _ _ hM hS _ (lv_sub hl [1, 0] rfl)
  replace h := it c1 h
  refine lv_aload_n hx hb dX6_undo_7 rfl (lv_at hl 0 rfl) ?_
  refine m_get S hK hM 9 (Nat.le_of_ble_eq_true rfl) q1741 (v := .ref (ma b 9)) rfl dX6_undo_8 ?_
  refine lv_iconst (v := (4 : Int32)) hx hb dX6_undo_11 (by decide) ?_
  refine lv_dup2_11 hx hb dX6_undo_12 rfl rfl ?_
  replace h := ob h
  obtain ⟨v2, hv2, h⟩ := h
  refine m_iald S hK hM 9 rfl hv2 dX6_undo_13 ?_
  refine lv_iconst (v := (1 : Int32)) hx hb dX6_undo_14 (by decide) ?_
  refine lv_iadd hx hb dX6_undo_15 ?_
  replace h := ob h
  obtain ⟨σ3, hσ3, h⟩ := h
  refine m_iast S hK hM hS 9 rfl hσ3 dX6_undo_16 (fun H locs hM hS => ?_)
  refine lv_iconst (v := (0 : Int32)) hx hb dX6_undo_17 (by decide) ?_
  exact m_iret S hr hlk rfl hM hS h dX6_undo_18
/-! keeps()V -/
abbrev rmX6_keeps : Room := { frames := 1, cells := 0, slots := 0, locals := 0 }
def fX6_keeps_15 : Nat → MS → Int32 → Option (MS)
  | 0, _, _ => none
  | n + 1, σ, a1 =>
    if (257 : Int32) ≤ a1 then
      if (20 : Int32) ≤ (σ.1 68) then
        some σ
      else
      some (sI σ 68 ((σ.1 68) + (1 : Int32)))
    else
    (aI σ 54 a1).bind fun v3 =>
    (tI σ 67 (((257 : Int32) * (σ.1 69)) + a1) v3).bind fun σ4 =>
    fX6_keeps_15 n σ4 (a1 + (1 : Int32))
def fX6_keeps (σ : MS) : Option (MS) :=
  fX6_keeps_15 FU (sI σ 69 (((σ.1 69) + (1 : Int32)) - ((σ.1 69) + (1 : Int32)) / (20 : Int32) * (20 : Int32))) (0 : Int32)
set_option maxHeartbeats 4000000 in
theorem wX6_keeps_15 {p : Program} {l : Launch} {e : Env} {s : State} {m : MethodId} {args : Array Value} {below : List Frame} {meth : Method} {c : Code} {G : mG} {b : Nat} (S : CallFix p m c cX6_keeps 2 s args lw_all RX6) (hr : meth.sig.returnType = none) (hlk : meth.locks = false) (hK : mK G s) {x : MS} : ∀ (n : Nat) (σ : MS) (a1 : Int32), fX6_keeps_15 n σ a1 = some x → mGo p l e rmX6_keeps s m args below meth c G b (MQ below (mQv G b x) args s 0 0 (mB b)) 2 15 [(0, .ref b), (1, .int a1)] [] σ := by
  obtain ⟨hx, hb, hml, hown, hts⟩ := id S
  intro n
  induction n with
  | zero => intro σ a1 h; cases h
  | succ n ih =>
    intro σ a1 h H locs hM hS ls hl
    rw [fX6_keeps_15] at h
    refine lv_iload_n hx hb dX6_keeps_15 rfl (lv_at hl 1 rfl) ?_
    refine lv_sipush (v := (257 : Int32)) hx hb dX6_keeps_16 (by decide) ?_
    refine lv_icmp_ge (tgt := 49) hx hb dX6_keeps_19 (by decide) (fun c1 => ?_) (fun c1 => ?_)
    · replace h := it c1 h
      refine lv_aload_n hx hb dX6_keeps_49 rfl (lv_at hl 0 rfl) ?_
      refine m_get S hK hM 68 (Nat.le_of_ble_eq_true rfl) q1800 (v := .int (σ.1 68)) rfl dX6_keeps_50 ?_
      refine lv_bipush (v := (20 : Int32)) hx hb dX6_keeps_53 (by decide) ?_
      refine lv_icmp_ge (tgt := 68) hx hb dX6_keeps_55 (by decide) (fun c2 => ?_) (fun c2 => ?_)
      · replace h := it c2 h
        exact m_vret S hr hlk hM hS h dX6_keeps_68
      replace h := ie c2 h
      refine lv_aload_n hx hb dX6_keeps_58 rfl (lv_at hl 0 rfl) ?_
      refine lv_dup hx hb dX6_keeps_59 rfl ?_
      refine m_get S hK hM 68 (Nat.le_of_ble_eq_true rfl) q1800 (v := .int (σ.1 68)) rfl dX6_keeps_60 ?_
      refine lv_iconst (v := (1 : Int32)) hx hb dX6_keeps_63 (by decide) ?_
      refine lv_iadd hx hb dX6_keeps_64 ?_
      refine m_putI S hK hM hS 68 (Nat.le_of_ble_eq_true rfl) rfl q1800 rfl (ty := .int) rfl rfl rfl dX6_keeps_65 (fun H locs hM hS => ?_)
      exact m_vret S hr hlk hM hS h dX6_keeps_68
    replace h := ie c1 h
    refine lv_aload_n hx hb dX6_keeps_22 rfl (lv_at hl 0 rfl) ?_
    refine m_get S hK hM 67 (Nat.le_of_ble_eq_true rfl) q1799 (v := .ref (ma b 67)) rfl dX6_keeps_23 ?_
    refine lv_sipush (v := (257 : Int32)) hx hb dX6_keeps_26 (by decide) ?_
    refine lv_aload_n hx hb dX6_keeps_29 rfl (lv_at hl 0 rfl) ?_
    refine m_get S hK hM 69 (Nat.le_of_ble_eq_true rfl) q1801 (v := .int (σ.1 69)) rfl dX6_keeps_30 ?_
    refine lv_imul hx hb dX6_keeps_33 ?_
    refine lv_iload_n hx hb dX6_keeps_34 rfl (lv_at hl 1 rfl) ?_
    refine lv_iadd hx hb dX6_keeps_35 ?_
    refine lv_aload_n hx hb dX6_keeps_36 rfl (lv_at hl 0 rfl) ?_
    refine m_get S hK hM 54 (Nat.le_of_ble_eq_true rfl) q1786 (v := .ref (ma b 54)) rfl dX6_keeps_37 ?_
    refine lv_iload_n hx hb dX6_keeps_40 rfl (lv_at hl 1 rfl) ?_
    replace h := ob h
    obtain ⟨v3, hv3, h⟩ := h
    refine m_iald S hK hM 54 rfl hv3 dX6_keeps_41 ?_
    replace h := ob h
    obtain ⟨σ4, hσ4, h⟩ := h
    refine m_iast S hK hM hS 67 rfl hσ4 dX6_keeps_42 (fun H locs hM hS => ?_)
    refine lv_iinc (v := (a1 + (1 : Int32))) (lv' := [(1, .int (a1 + (1 : Int32))), (0, .ref b)]) hx hb dX6_keeps_43 hl (k := 1) rfl rfl (by decide) rfl (fun ls hl => ?_)
    refine lv_goto (tgt := 15) hx hb dX6_keeps_46 (by decide) ?_
    exact ih σ4 (a1 + (1 : Int32)) h _ _ hM hS _ (lv_sub hl [1, 0] rfl)
set_option maxHeartbeats 4000000 in
theorem metX6_keeps {l : Launch} {G : mG} {b : Nat} {σ : MS} {x : MS} (h : fX6_keeps σ = some x) : Met l yX6_keeps (ws_ yX6_keeps cX6_keeps 2 (none)) rmX6_keeps (mP G b σ [.ref b]) (mQv G b x) 0 0 (mB b) := by
  refine m_entry (by decide) rfl (Nat.le_of_ble_eq_true rfl) ?_
  intro p e s m below meth c S hr hlk hK hM hS ls hl
  replace hl : lv_has ls 2 [(0, .ref b)] := hl
  obtain ⟨hx, hb, hml, hown, hts⟩ := id S
  unfold fX6_keeps at h
  refine lv_aload_n hx hb dX6_keeps_0 rfl (lv_at hl 0 rfl) ?_
  refine lv_aload_n hx hb dX6_keeps_1 rfl (lv_at hl 0 rfl) ?_
  refine m_get S hK hM 69 (Nat.le_of_ble_eq_true rfl) q1801 (v := .int (σ.1 69)) rfl dX6_keeps_2 ?_
  refine lv_iconst (v := (1 : Int32)) hx hb dX6_keeps_5 (by decide) ?_
  refine lv_iadd hx hb dX6_keeps_6 ?_
  refine lv_bipush (v := (20 : Int32)) hx hb dX6_keeps_7 (by decide) ?_
  refine lv_irem hx hb dX6_keeps_9 (by decide) ?_
  refine m_putI S hK hM hS 69 (Nat.le_of_ble_eq_true rfl) rfl q1801 rfl (ty := .int) rfl rfl rfl dX6_keeps_10 (fun H locs hM hS => ?_)
  refine lv_iconst (v := (0 : Int32)) hx hb dX6_keeps_13 (by decide) ?_
  refine lv_istore_n (lv' := [(1, .int (0 : Int32)), (0, .ref b)]) hx hb dX6_keeps_14 rfl hl (by decide) rfl (fun ls hl => ?_)
  exact wX6_keeps_15 S hr hlk hK FU (sI σ 69 (((σ.1 69) + (1 : Int32)) - ((σ.1 69) + (1 : Int32)) / (20 : Int32) * (20 : Int32))) (0 : Int32) h _ _ hM hS _ (lv_sub hl [1, 0] rfl)
theorem kX6_keeps {p : Program} {l : Launch} {e : Env} {R : Room} {s : State} {m : MethodId} {args : Array Value} {below : List Frame} {meth : Method} {c : Code} {H H0 : Heap} {locs : List Loc} {Q : State → Prop} {cc : ByteArray} {nL pc : Nat} {ls : Array Slot} {rest : List Value} {G : mG} {b : Nat} {σ : MS} {x : MS} (S : CallFix p m c cc nL s args lw_all RX6) (hK : mK G s) (hM : MW G b σ H) (hS : va_S (mB b) H0 H locs) (hf : fX6_keeps σ = some x) (hR : rmX6_keeps.frames + 1 ≤ R.frames ∧ 8 + (2 + 11) + rmX6_keeps.locals ≤ R.locals) (hsize : ls.size = nL) (hr : (rest.map fun v => v.category).sum ≤ 8) (hdg : decode cc pc = .ok (.invokevirtual 575, 3)) (kk : ∀ (H1 : Heap) (locs1 : List Loc), MW G b x H1 → va_S (mB b) H0 H1 locs1 → W p l e R s m args below meth c H1 locs1 0 0 Q (F0 m (pc + 3) ls (rest))) : W p l e R s m args below meth c H locs 0 0 Q (F0 m pc ls (.ref b :: rest)) :=
  m_cVv (As := []) S hK hM hS (metX6_keeps hf) (cwV 0 S.2.2.2.2 (lw_V q2528 q2530 qs152 q179 q2531) rfl rfl rfl (by decide +kernel) hR) ⟨Nat.zero_le _, Nat.zero_le _⟩ rfl hsize rfl hr hdg kk
/-! press(II)Z -/
abbrev rmX6_press : Room := { frames := 3, cells := 0, slots := 0, locals := 46 }
def fX6_press_36 (σ : MS) : Option (MS × Int32) :=
  (aI σ 9 (2 : Int32)).bind fun v1 =>
  (tI σ 9 (2 : Int32) (v1 + (1 : Int32))).bind fun σ2 =>
  some (σ2, (0 : Int32))
def fX6_press_33 (σ : MS) (a1 : Int32) (a2 : Int32) (t0 : Int32) (t1 : Int32) : Option (MS × Int32) :=
  if t0 = t1 then
    fX6_press_36 σ
  else
  (fX6_keeps σ).bind fun x2 =>
  (tI x2 54 ((86 : Int32) + ((2 : Int32) * a1)) a2).bind fun σ3 =>
  some (σ3, (1 : Int32))
def fX6_press (σ : MS) (a1 : Int32) (a2 : Int32) : Option (MS × Int32) :=
  (fX6_isPerson σ a1).bind fun x1 =>
  if x1 = 0 then
    fX6_press_36 σ
  else
  (fX6_isIn σ a2.toInt64 (0 : Int64) (1 : Int64)).bind fun x3 =>
  if x3 = 0 then
    fX6_press_36 σ
  else
  (fX6_doesPress σ a1).bind fun x5 =>
  if a2 = (1 : Int32) then
    fX6_press_33 σ a1 a2 x5 (1 : Int32)
  else
  fX6_press_33 σ a1 a2 x5 (0 : Int32)
set_option maxHeartbeats 4000000 in
theorem wX6_press_36 {p : Program} {l : Launch} {e : Env} {s : State} {m : MethodId} {args : Array Value} {below : List Frame} {meth : Method} {c : Code} {G : mG} {b : Nat} (S : CallFix p m c cX6_press 3 s args lw_all RX6) (hr : meth.sig.returnType = some .boolean) (hlk : meth.locks = false) (hK : mK G s) {x : MS × Int32} : ∀ (σ : MS), fX6_press_36 σ = some x → mGo p l e rmX6_press s m args below meth c G b (MQ below (mQi G b x) args s 0 0 (mB b)) 3 36 [(0, .ref b)] [] σ := by
  obtain ⟨hx, hb, hml, hown, hts⟩ := id S
  intro σ h H locs hM hS ls hl
  unfold fX6_press_36 at h
  refine lv_aload_n hx hb dX6_press_36 rfl (lv_at hl 0 rfl) ?_
  refine m_get S hK hM 9 (Nat.le_of_ble_eq_true rfl) q1741 (v := .ref (ma b 9)) rfl dX6_press_37 ?_
  refine lv_iconst (v := (2 : Int32)) hx hb dX6_press_40 (by decide) ?_
  refine lv_dup2_11 hx hb dX6_press_41 rfl rfl ?_
  replace h := ob h
  obtain ⟨v1, hv1, h⟩ := h
  refine m_iald S hK hM 9 rfl hv1 dX6_press_42 ?_
  refine lv_iconst (v := (1 : Int32)) hx hb dX6_press_43 (by decide) ?_
  refine lv_iadd hx hb dX6_press_44 ?_
  replace h := ob h
  obtain ⟨σ2, hσ2, h⟩ := h
  refine m_iast S hK hM hS 9 rfl hσ2 dX6_press_45 (fun H locs hM hS => ?_)
  refine lv_iconst (v := (0 : Int32)) hx hb dX6_press_46 (by decide) ?_
  exact m_iret S hr hlk rfl hM hS h dX6_press_47
set_option maxHeartbeats 4000000 in
theorem wX6_press_33 {p : Program} {l : Launch} {e : Env} {s : State} {m : MethodId} {args : Array Value} {below : List Frame} {meth : Method} {c : Code} {G : mG} {b : Nat} (S : CallFix p m c cX6_press 3 s args lw_all RX6) (hr : meth.sig.returnType = some .boolean) (hlk : meth.locks = false) (hK : mK G s) {x : MS × Int32} : ∀ (σ : MS) (a1 : Int32) (a2 : Int32) (t0 : Int32) (t1 : Int32), fX6_press_33 σ a1 a2 t0 t1 = some x → mGo p l e rmX6_press s m args below meth c G b (MQ below (mQi G b x) args s 0 0 (mB b)) 3 33 [(0, .ref b), (1, .int a1), (2, .int a2)] [.int t1, .int t0] σ := by
  obtain ⟨hx, hb, hml, hown, hts⟩ := id S
  intro σ a1 a2 t0 t1 h H locs hM hS ls hl
  unfold fX6_press_33 at h
  refine lv_icmp_ne (tgt := 48) hx hb dX6_press_33 (by decide) (fun c1 => ?_) (fun c1 => ?_)
  rotate_left 1
  · replace h := it c1 h
    exact wX6_press_36 S hr hlk hK σ h _ _ hM hS _ (lv_sub hl [0] rfl)
  replace h := ie c1 h
  refine lv_aload_n hx hb dX6_press_48 rfl (lv_at hl 0 rfl) ?_
  replace h := ob h
  obtain ⟨x2, hx2, h⟩ := h
  refine kX6_keeps S hK hM hS hx2 ⟨Nat.le_of_ble_eq_true rfl, Nat.le_of_ble_eq_true rfl⟩ hl.1 (Nat.le_of_ble_eq_true rfl) dX6_press_49 (fun H locs hM hS => ?_)
  refine lv_aload_n hx hb dX6_press_52 rfl (lv_at hl 0 rfl) ?_
  refine m_get S hK hM 54 (Nat.le_of_ble_eq_true rfl) q1786 (v := .ref (ma b 54)) rfl dX6_press_53 ?_
  refine lv_bipush (v := (86 : Int32)) hx hb dX6_press_56 (by decide) ?_
  refine lv_iconst (v := (2 : Int32)) hx hb dX6_press_58 (by decide) ?_
  refine lv_iload_n hx hb dX6_press_59 rfl (lv_at hl 1 rfl) ?_
  refine lv_imul hx hb dX6_press_60 ?_
  refine lv_iadd hx hb dX6_press_61 ?_
  refine lv_iload_n hx hb dX6_press_62 rfl (lv_at hl 2 rfl) ?_
  replace h := ob h
  obtain ⟨σ3, hσ3, h⟩ := h
  refine m_iast S hK hM hS 54 rfl hσ3 dX6_press_63 (fun H locs hM hS => ?_)
  refine lv_iconst (v := (1 : Int32)) hx hb dX6_press_64 (by decide) ?_
  exact m_iret S hr hlk rfl hM hS h dX6_press_65
set_option maxHeartbeats 4000000 in
theorem metX6_press {l : Launch} {G : mG} {b : Nat} {σ : MS} {a1 : Int32} {a2 : Int32} {x : MS × Int32} (h : fX6_press σ a1 a2 = some x) : Met l yX6_press (ws_ yX6_press cX6_press 3 (some .boolean)) rmX6_press (mP G b σ [.ref b, .int a1, .int a2]) (mQi G b x) 0 0 (mB b) := by
  refine m_entry (by decide) rfl (Nat.le_of_ble_eq_true rfl) ?_
  intro p e s m below meth c S hr hlk hK hM hS ls hl
  replace hl : lv_has ls 3 [(0, .ref b), (1, .int a1), (2, .int a2)] := hl
  obtain ⟨hx, hb, hml, hown, hts⟩ := id S
  unfold fX6_press at h
  refine lv_aload_n hx hb dX6_press_0 rfl (lv_at hl 0 rfl) ?_
  refine lv_iload_n hx hb dX6_press_1 rfl (lv_at hl 1 rfl) ?_
  replace h := ob h
  obtain ⟨x1, hx1, h⟩ := h
  refine kX6_isPerson S hK hM hS hx1 ⟨Nat.le_of_ble_eq_true rfl, Nat.le_of_ble_eq_true rfl⟩ hl.1 (Nat.le_of_ble_eq_true rfl) dX6_press_2 (fun H locs hM hS => ?_)
  refine lv_if_eq (tgt := 36) hx hb dX6_press_5 (by decide) (fun c2 => ?_) (fun c2 => ?_)
  · replace h := it c2 h
    exact wX6_press_36 S hr hlk hK σ h _ _ hM hS _ (lv_sub hl [0] rfl)
  replace h := ie c2 h
  refine lv_iload_n hx hb dX6_press_8 rfl (lv_at hl 2 rfl) ?_
  refine lv_i2l (v := a2.toInt64) hx hb dX6_press_9 rfl ?_
  refine lv_lconst (v := (0 : Int64)) hx hb dX6_press_10 (by decide) ?_
  refine lv_lconst (v := (1 : Int64)) hx hb dX6_press_11 (by decide) ?_
  replace h := ob h
  obtain ⟨x3, hx3, h⟩ := h
  refine kX6_isIn S hK hM hS hx3 ⟨Nat.le_of_ble_eq_true rfl, Nat.le_of_ble_eq_true rfl⟩ hl.1 (Nat.le_of_ble_eq_true rfl) dX6_press_12 (fun H locs hM hS => ?_)
  refine lv_if_eq (tgt := 36) hx hb dX6_press_15 (by decide) (fun c4 => ?_) (fun c4 => ?_)
  · replace h := it c4 h
    exact wX6_press_36 S hr hlk hK σ h _ _ hM hS _ (lv_sub hl [0] rfl)
  replace h := ie c4 h
  refine lv_aload_n hx hb dX6_press_18 rfl (lv_at hl 0 rfl) ?_
  refine lv_iload_n hx hb dX6_press_19 rfl (lv_at hl 1 rfl) ?_
  replace h := ob h
  obtain ⟨x5, hx5, h⟩ := h
  refine kX6_doesPress S hK hM hS hx5 ⟨Nat.le_of_ble_eq_true rfl, Nat.le_of_ble_eq_true rfl⟩ hl.1 (Nat.le_of_ble_eq_true rfl) dX6_press_20 (fun H locs hM hS => ?_)
  refine lv_iload_n hx hb dX6_press_23 rfl (lv_at hl 2 rfl) ?_
  refine lv_iconst (v := (1 : Int32)) hx hb dX6_press_24 (by decide) ?_
  refine lv_icmp_ne (tgt := 32) hx hb dX6_press_25 (by decide) (fun c6 => ?_) (fun c6 => ?_)
  · replace h := ie c6 h
    refine lv_iconst (v := (0 : Int32)) hx hb dX6_press_32 (by decide) ?_
    exact wX6_press_33 S hr hlk hK σ a1 a2 x5 (0 : Int32) h _ _ hM hS _ (lv_sub hl [0, 1, 2] rfl)
  replace h := it c6 h
  refine lv_iconst (v := (1 : Int32)) hx hb dX6_press_28 (by decide) ?_
  refine lv_goto (tgt := 33) hx hb dX6_press_29 (by decide) ?_
  exact wX6_press_33 S hr hlk hK σ a1 a2 x5 (1 : Int32) h _ _ hM hS _ (lv_sub hl [0, 1, 2] rfl)
/-! show(II)J -/
abbrev rmX6_show : Room := { frames := 6, cells := 0, slots := 0, locals := 117 }
def fX6_show_34 (σ : MS) : Option (MS × Int64) :=
  (aI σ 9 (2 : Int32)).bind fun v1 =>
  (tI σ 9 (2 : Int32) (v1 + (1 : Int32))).bind fun σ2 =>
  some (σ2, (-1000000000000000 : Int64))
def fX6_show (σ : MS) (a1 : Int32) (a2 : Int32) : Option (MS × Int64) :=
  (fX6_isPerson σ a1).bind fun x1 =>
  if x1 = 0 then
    fX6_show_34 σ
  else
  (fX6_isFilm σ a2).bind fun x3 =>
  if x3 = 0 then
    fX6_show_34 σ
  else
  (fX6_profileOf σ a1).bind fun x5 =>
  (fX6_seenBy σ x5 a2).bind fun x6 =>
  (fX6_partsOf σ a2).bind fun x7 =>
  if x6 = x7 then
    fX6_show_34 σ
  else
  (fX6_keeps σ).bind fun x9 =>
  (fX6_profileOf x9 a1).bind fun x10 =>
  (fX6_partSeen x9 x10 a2).bind fun x11 =>
  (fX6_hasSeen x11 a1).bind fun x12 =>
  (fX6_isKept x12 a1 a2).bind fun x13 =>
  (fX6_pleasedBy x13 a1 a2).bind fun x14 =>
  some (x13, x14.toInt64)
set_option maxHeartbeats 4000000 in
theorem wX6_show_34 {p : Program} {l : Launch} {e : Env} {s : State} {m : MethodId} {args : Array Value} {below : List Frame} {meth : Method} {c : Code} {G : mG} {b : Nat} (S : CallFix p m c cX6_show 3 s args lw_all RX6) (hr : meth.sig.returnType = some .long) (hlk : meth.locks = false) (hK : mK G s) {x : MS × Int64} : ∀ (σ : MS), fX6_show_34 σ = some x → mGo p l e rmX6_show s m args below meth c G b (MQ below (mQl G b x) args s 0 0 (mB b)) 3 34 [(0, .ref b)] [] σ := by
  obtain ⟨hx, hb, hml, hown, hts⟩ := id S
  intro σ h H locs hM hS ls hl
  unfold fX6_show_34 at h
  refine lv_aload_n hx hb dX6_show_34 rfl (lv_at hl 0 rfl) ?_
  refine m_get S hK hM 9 (Nat.le_of_ble_eq_true rfl) q1741 (v := .ref (ma b 9)) rfl dX6_show_35 ?_
  refine lv_iconst (v := (2 : Int32)) hx hb dX6_show_38 (by decide) ?_
  refine lv_dup2_11 hx hb dX6_show_39 rfl rfl ?_
  replace h := ob h
  obtain ⟨v1, hv1, h⟩ := h
  refine m_iald S hK hM 9 rfl hv1 dX6_show_40 ?_
  refine lv_iconst (v := (1 : Int32)) hx hb dX6_show_41 (by decide) ?_
  refine lv_iadd hx hb dX6_show_42 ?_
  replace h := ob h
  obtain ⟨σ2, hσ2, h⟩ := h
  refine m_iast S hK hM hS 9 rfl hσ2 dX6_show_43 (fun H locs hM hS => ?_)
  refine lv_ldc2 hx hb hown (hts _ q2402) dX6_show_44 ?_
  exact m_lret S hr hlk hM hS h dX6_show_47
set_option maxHeartbeats 4000000 in
theorem metX6_show {l : Launch} {G : mG} {b : Nat} {σ : MS} {a1 : Int32} {a2 : Int32} {x : MS × Int64} (h : fX6_show σ a1 a2 = some x) : Met l yX6_show (ws_ yX6_show cX6_show 3 (some .long)) rmX6_show (mP G b σ [.ref b, .int a1, .int a2]) (mQl G b x) 0 0 (mB b) := by
  refine m_entry (by decide) rfl (Nat.le_of_ble_eq_true rfl) ?_
  intro p e s m below meth c S hr hlk hK hM hS ls hl
  replace hl : lv_has ls 3 [(0, .ref b), (1, .int a1), (2, .int a2)] := hl
  obtain ⟨hx, hb, hml, hown, hts⟩ := id S
  unfold fX6_show at h
  refine lv_aload_n hx hb dX6_show_0 rfl (lv_at hl 0 rfl) ?_
  refine lv_iload_n hx hb dX6_show_1 rfl (lv_at hl 1 rfl) ?_
  replace h := ob h
  obtain ⟨x1, hx1, h⟩ := h
  refine kX6_isPerson S hK hM hS hx1 ⟨Nat.le_of_ble_eq_true rfl, Nat.le_of_ble_eq_true rfl⟩ hl.1 (Nat.le_of_ble_eq_true rfl) dX6_show_2 (fun H locs hM hS => ?_)
  refine lv_if_eq (tgt := 34) hx hb dX6_show_5 (by decide) (fun c2 => ?_) (fun c2 => ?_)
  · replace h := it c2 h
    exact wX6_show_34 S hr hlk hK σ h _ _ hM hS _ (lv_sub hl [0] rfl)
  replace h := ie c2 h
  refine lv_aload_n hx hb dX6_show_8 rfl (lv_at hl 0 rfl) ?_
  refine lv_iload_n hx hb dX6_show_9 rfl (lv_at hl 2 rfl) ?_
  replace h := ob h
  obtain ⟨x3, hx3, h⟩ := h
  refine kX6_isFilm S hK hM hS hx3 ⟨Nat.le_of_ble_eq_true rfl, Nat.le_of_ble_eq_true rfl⟩ hl.1 (Nat.le_of_ble_eq_true rfl) dX6_show_10 (fun H locs hM hS => ?_)
  refine lv_if_eq (tgt := 34) hx hb dX6_show_13 (by decide) (fun c4 => ?_) (fun c4 => ?_)
  · replace h := it c4 h
    exact wX6_show_34 S hr hlk hK σ h _ _ hM hS _ (lv_sub hl [0] rfl)
  replace h := ie c4 h
  refine lv_aload_n hx hb dX6_show_16 rfl (lv_at hl 0 rfl) ?_
  refine lv_aload_n hx hb dX6_show_17 rfl (lv_at hl 0 rfl) ?_
  refine lv_iload_n hx hb dX6_show_18 rfl (lv_at hl 1 rfl) ?_
  replace h := ob h
  obtain ⟨x5, hx5, h⟩ := h
  refine kX6_profileOf S hK hM hS hx5 ⟨Nat.le_of_ble_eq_true rfl, Nat.le_of_ble_eq_true rfl⟩ hl.1 (Nat.le_of_ble_eq_true rfl) dX6_show_19 (fun H locs hM hS => ?_)
  refine lv_iload_n hx hb dX6_show_22 rfl (lv_at hl 2 rfl) ?_
  replace h := ob h
  obtain ⟨x6, hx6, h⟩ := h
  refine kX6_seenBy S hK hM hS hx6 ⟨Nat.le_of_ble_eq_true rfl, Nat.le_of_ble_eq_true rfl⟩ hl.1 (Nat.le_of_ble_eq_true rfl) dX6_show_23 (fun H locs hM hS => ?_)
  refine lv_aload_n hx hb dX6_show_26 rfl (lv_at hl 0 rfl) ?_
  refine lv_iload_n hx hb dX6_show_27 rfl (lv_at hl 2 rfl) ?_
  replace h := ob h
  obtain ⟨x7, hx7, h⟩ := h
  refine kX6_partsOf S hK hM hS hx7 ⟨Nat.le_of_ble_eq_true rfl, Nat.le_of_ble_eq_true rfl⟩ hl.1 (Nat.le_of_ble_eq_true rfl) dX6_show_28 (fun H locs hM hS => ?_)
  refine lv_icmp_ne (tgt := 48) hx hb dX6_show_31 (by decide) (fun c8 => ?_) (fun c8 => ?_)
  rotate_left 1
  · replace h := it c8 h
    exact wX6_show_34 S hr hlk hK σ h _ _ hM hS _ (lv_sub hl [0] rfl)
  replace h := ie c8 h
  refine lv_aload_n hx hb dX6_show_48 rfl (lv_at hl 0 rfl) ?_
  replace h := ob h
  obtain ⟨x9, hx9, h⟩ := h
  refine kX6_keeps S hK hM hS hx9 ⟨Nat.le_of_ble_eq_true rfl, Nat.le_of_ble_eq_true rfl⟩ hl.1 (Nat.le_of_ble_eq_true rfl) dX6_show_49 (fun H locs hM hS => ?_)
  refine lv_aload_n hx hb dX6_show_52 rfl (lv_at hl 0 rfl) ?_
  refine lv_aload_n hx hb dX6_show_53 rfl (lv_at hl 0 rfl) ?_
  refine lv_iload_n hx hb dX6_show_54 rfl (lv_at hl 1 rfl) ?_
  replace h := ob h
  obtain ⟨x10, hx10, h⟩ := h
  refine kX6_profileOf S hK hM hS hx10 ⟨Nat.le_of_ble_eq_true rfl, Nat.le_of_ble_eq_true rfl⟩ hl.1 (Nat.le_of_ble_eq_true rfl) dX6_show_55 (fun H locs hM hS => ?_)
  refine lv_iload_n hx hb dX6_show_58 rfl (lv_at hl 2 rfl) ?_
  replace h := ob h
  obtain ⟨x11, hx11, h⟩ := h
  refine kX6_partSeen S hK hM hS hx11 ⟨Nat.le_of_ble_eq_true rfl, Nat.le_of_ble_eq_true rfl⟩ hl.1 (Nat.le_of_ble_eq_true rfl) dX6_show_59 (fun H locs hM hS => ?_)
  refine lv_aload_n hx hb dX6_show_62 rfl (lv_at hl 0 rfl) ?_
  refine lv_iload_n hx hb dX6_show_63 rfl (lv_at hl 1 rfl) ?_
  replace h := ob h
  obtain ⟨x12, hx12, h⟩ := h
  refine kX6_hasSeen S hK hM hS hx12 ⟨Nat.le_of_ble_eq_true rfl, Nat.le_of_ble_eq_true rfl⟩ hl.1 (Nat.le_of_ble_eq_true rfl) dX6_show_64 (fun H locs hM hS => ?_)
  refine lv_aload_n hx hb dX6_show_67 rfl (lv_at hl 0 rfl) ?_
  refine lv_iload_n hx hb dX6_show_68 rfl (lv_at hl 1 rfl) ?_
  refine lv_iload_n hx hb dX6_show_69 rfl (lv_at hl 2 rfl) ?_
  replace h := ob h
  obtain ⟨x13, hx13, h⟩ := h
  refine kX6_isKept S hK hM hS hx13 ⟨Nat.le_of_ble_eq_true rfl, Nat.le_of_ble_eq_true rfl⟩ hl.1 (Nat.le_of_ble_eq_true rfl) dX6_show_70 (fun H locs hM hS => ?_)
  refine lv_aload_n hx hb dX6_show_73 rfl (lv_at hl 0 rfl) ?_
  refine lv_iload_n hx hb dX6_show_74 rfl (lv_at hl 1 rfl) ?_
  refine lv_iload_n hx hb dX6_show_75 rfl (lv_at hl 2 rfl) ?_
  replace h := ob h
  obtain ⟨x14, hx14, h⟩ := h
  refine kX6_pleasedBy S hK hM hS hx14 ⟨Nat.le_of_ble_eq_true rfl, Nat.le_of_ble_eq_true rfl⟩ hl.1 (Nat.le_of_ble_eq_true rfl) dX6_show_76 (fun H locs hM hS => ?_)
  refine lv_i2l (v := x14.toInt64) hx hb dX6_show_79 rfl ?_
  exact m_lret S hr hlk hM hS h dX6_show_80
/-! refuses(I)I -/
abbrev rmX6_refuses : Room := { frames := 1, cells := 0, slots := 0, locals := 0 }
def fX6_refuses (σ : MS) (a1 : Int32) : Option (MS × Int32) :=
  (aI σ 9 a1).bind fun v1 =>
  (tI σ 9 a1 (v1 + (1 : Int32))).bind fun σ2 =>
  some (σ2, (-1 : Int32))
set_option maxHeartbeats 4000000 in
theorem metX6_refuses {l : Launch} {G : mG} {b : Nat} {σ : MS} {a1 : Int32} {x : MS × Int32} (h : fX6_refuses σ a1 = some x) : Met l yX6_refuses (ws_ yX6_refuses cX6_refuses 2 (some .int)) rmX6_refuses (mP G b σ [.ref b, .int a1]) (mQi G b x) 0 0 (mB b) := by
  refine m_entry (by decide) rfl (Nat.le_of_ble_eq_true rfl) ?_
  intro p e s m below meth c S hr hlk hK hM hS ls hl
  replace hl : lv_has ls 2 [(0, .ref b), (1, .int a1)] := hl
  obtain ⟨hx, hb, hml, hown, hts⟩ := id S
  unfold fX6_refuses at h
  refine lv_aload_n hx hb dX6_refuses_0 rfl (lv_at hl 0 rfl) ?_
  refine m_get S hK hM 9 (Nat.le_of_ble_eq_true rfl) q1741 (v := .ref (ma b 9)) rfl dX6_refuses_1 ?_
  refine lv_iload_n hx hb dX6_refuses_4 rfl (lv_at hl 1 rfl) ?_
  refine lv_dup2_11 hx hb dX6_refuses_5 rfl rfl ?_
  replace h := ob h
  obtain ⟨v1, hv1, h⟩ := h
  refine m_iald S hK hM 9 rfl hv1 dX6_refuses_6 ?_
  refine lv_iconst (v := (1 : Int32)) hx hb dX6_refuses_7 (by decide) ?_
  refine lv_iadd hx hb dX6_refuses_8 ?_
  replace h := ob h
  obtain ⟨σ2, hσ2, h⟩ := h
  refine m_iast S hK hM hS 9 rfl hσ2 dX6_refuses_9 (fun H locs hM hS => ?_)
  refine lv_iconst (v := (-1 : Int32)) hx hb dX6_refuses_10 (by decide) ?_
  exact m_iret S hr hlk rfl hM hS h dX6_refuses_11
theorem kX6_refuses {p : Program} {l : Launch} {e : Env} {R : Room} {s : State} {m : MethodId} {args : Array Value} {below : List Frame} {meth : Method} {c : Code} {H H0 : Heap} {locs : List Loc} {Q : State → Prop} {cc : ByteArray} {nL pc : Nat} {ls : Array Slot} {rest : List Value} {G : mG} {b : Nat} {σ : MS} {a1 : Int32} {x : MS × Int32} (S : CallFix p m c cc nL s args lw_all RX6) (hK : mK G s) (hM : MW G b σ H) (hS : va_S (mB b) H0 H locs) (hf : fX6_refuses σ a1 = some x) (hR : rmX6_refuses.frames + 1 ≤ R.frames ∧ 8 + (2 + 11) + rmX6_refuses.locals ≤ R.locals) (hsize : ls.size = nL) (hr : (rest.map fun v => v.category).sum ≤ 8) (hdg : decode cc pc = .ok (.invokevirtual 578, 3)) (kk : ∀ (H1 : Heap) (locs1 : List Loc), MW G b x.1 H1 → va_S (mB b) H0 H1 locs1 → W p l e R s m args below meth c H1 locs1 0 0 Q (F0 m (pc + 3) ls (.int x.2 :: rest))) : W p l e R s m args below meth c H locs 0 0 Q (F0 m pc ls (.int a1 :: .ref b :: rest)) :=
  m_cVi (As := [.int a1]) S hK hM hS (metX6_refuses hf) (cwV 1 S.2.2.2.2 (lw_V q2540 q2542 qs153 q179 q2543) rfl rfl rfl (by decide +kernel) hR) ⟨Nat.zero_le _, Nat.zero_le _⟩ rfl hsize rfl hr hdg kk
/-! hours(I)I -/
abbrev rmX6_hours : Room := { frames := 9, cells := 0, slots := 0, locals := 184 }
def fX6_hours (σ : MS) (a1 : Int32) : Option (MS × Int32) :=
  (fX6_isAhead σ a1 (1 : Int32) (100 : Int32)).bind fun x1 =>
  if x1 = 0 then
    (fX6_refuses σ (3 : Int32)).bind fun x5 =>
    some (x5.1, x5.2)
  else
  (fX6_keeps σ).bind fun x3 =>
  (fX6_hoursGo x3 a1).bind fun x4 =>
  some (x4.1, x4.2)
set_option maxHeartbeats 4000000 in
theorem metX6_hours {l : Launch} {G : mG} {b : Nat} {σ : MS} {a1 : Int32} {x : MS × Int32} (h : fX6_hours σ a1 = some x) : Met l yX6_hours (ws_ yX6_hours cX6_hours 2 (some .int)) rmX6_hours (mP G b σ [.ref b, .int a1]) (mQi G b x) 0 0 (mB b) := by
  refine m_entry (by decide) rfl (Nat.le_of_ble_eq_true rfl) ?_
  intro p e s m below meth c S hr hlk hK hM hS ls hl
  replace hl : lv_has ls 2 [(0, .ref b), (1, .int a1)] := hl
  obtain ⟨hx, hb, hml, hown, hts⟩ := id S
  unfold fX6_hours at h
  refine lv_aload_n hx hb dX6_hours_0 rfl (lv_at hl 0 rfl) ?_
  refine lv_iload_n hx hb dX6_hours_1 rfl (lv_at hl 1 rfl) ?_
  refine lv_iconst (v := (1 : Int32)) hx hb dX6_hours_2 (by decide) ?_
  refine lv_bipush (v := (100 : Int32)) hx hb dX6_hours_3 (by decide) ?_
  replace h := ob h
  obtain ⟨x1, hx1, h⟩ := h
  refine kX6_isAhead S hK hM hS hx1 ⟨Nat.le_of_ble_eq_true rfl, Nat.le_of_ble_eq_true rfl⟩ hl.1 (Nat.le_of_ble_eq_true rfl) dX6_hours_5 (fun H locs hM hS => ?_)
  refine lv_if_ne (tgt := 17) hx hb dX6_hours_8 (by decide) (fun c2 => ?_) (fun c2 => ?_)
  rotate_left 1
  · replace h := it c2 h
    refine lv_aload_n hx hb dX6_hours_11 rfl (lv_at hl 0 rfl) ?_
    refine lv_iconst (v := (3 : Int32)) hx hb dX6_hours_12 (by decide) ?_
    replace h := ob h
    obtain ⟨x5, hx5, h⟩ := h
    refine kX6_refuses S hK hM hS hx5 ⟨Nat.le_of_ble_eq_true rfl, Nat.le_of_ble_eq_true rfl⟩ hl.1 (Nat.le_of_ble_eq_true rfl) dX6_hours_13 (fun H locs hM hS => ?_)
    exact m_iret S hr hlk rfl hM hS h dX6_hours_16
  replace h := ie c2 h
  refine lv_aload_n hx hb dX6_hours_17 rfl (lv_at hl 0 rfl) ?_
  replace h := ob h
  obtain ⟨x3, hx3, h⟩ := h
  refine kX6_keeps S hK hM hS hx3 ⟨Nat.le_of_ble_eq_true rfl, Nat.le_of_ble_eq_true rfl⟩ hl.1 (Nat.le_of_ble_eq_true rfl) dX6_hours_18 (fun H locs hM hS => ?_)
  refine lv_aload_n hx hb dX6_hours_21 rfl (lv_at hl 0 rfl) ?_
  refine lv_iload_n hx hb dX6_hours_22 rfl (lv_at hl 1 rfl) ?_
  replace h := ob h
  obtain ⟨x4, hx4, h⟩ := h
  refine kX6_hoursGo S hK hM hS hx4 ⟨Nat.le_of_ble_eq_true rfl, Nat.le_of_ble_eq_true rfl⟩ hl.1 (Nat.le_of_ble_eq_true rfl) dX6_hours_23 (fun H locs hM hS => ?_)
  exact m_iret S hr hlk rfl hM hS h dX6_hours_26
/-! seed(I)Z -/
abbrev rmX6_seed : Room := { frames := 1, cells := 0, slots := 0, locals := 0 }
def fX6_seed (σ : MS) (a1 : Int32) : Option (MS × Int32) :=
  if 0 ≤ a1 then
    some ((sL σ 70 a1.toInt64), (1 : Int32))
  else
  (aI σ 9 (5 : Int32)).bind fun v2 =>
  (tI σ 9 (5 : Int32) (v2 + (1 : Int32))).bind fun σ3 =>
  some (σ3, (0 : Int32))
set_option maxHeartbeats 4000000 in
theorem metX6_seed {l : Launch} {G : mG} {b : Nat} {σ : MS} {a1 : Int32} {x : MS × Int32} (h : fX6_seed σ a1 = some x) : Met l yX6_seed (ws_ yX6_seed cX6_seed 2 (some .boolean)) rmX6_seed (mP G b σ [.ref b, .int a1]) (mQi G b x) 0 0 (mB b) := by
  refine m_entry (by decide) rfl (Nat.le_of_ble_eq_true rfl) ?_
  intro p e s m below meth c S hr hlk hK hM hS ls hl
  replace hl : lv_has ls 2 [(0, .ref b), (1, .int a1)] := hl
  obtain ⟨hx, hb, hml, hown, hts⟩ := id S
  unfold fX6_seed at h
  refine lv_iload_n hx hb dX6_seed_0 rfl (lv_at hl 1 rfl) ?_
  refine lv_if_ge (tgt := 16) hx hb dX6_seed_1 (by decide) (fun c1 => ?_) (fun c1 => ?_)
  · replace h := it c1 h
    refine lv_aload_n hx hb dX6_seed_16 rfl (lv_at hl 0 rfl) ?_
    refine lv_iload_n hx hb dX6_seed_17 rfl (lv_at hl 1 rfl) ?_
    refine lv_i2l (v := a1.toInt64) hx hb dX6_seed_18 rfl ?_
    refine m_putL S hK hM hS 70 (Nat.le_of_ble_eq_true rfl) rfl q1802 rfl rfl dX6_seed_19 (fun H locs hM hS => ?_)
    refine lv_iconst (v := (1 : Int32)) hx hb dX6_seed_22 (by decide) ?_
    exact m_iret S hr hlk rfl hM hS h dX6_seed_23
  replace h := ie c1 h
  refine lv_aload_n hx hb dX6_seed_4 rfl (lv_at hl 0 rfl) ?_
  refine m_get S hK hM 9 (Nat.le_of_ble_eq_true rfl) q1741 (v := .ref (ma b 9)) rfl dX6_seed_5 ?_
  refine lv_iconst (v := (5 : Int32)) hx hb dX6_seed_8 (by decide) ?_
  refine lv_dup2_11 hx hb dX6_seed_9 rfl rfl ?_
  replace h := ob h
  obtain ⟨v2, hv2, h⟩ := h
  refine m_iald S hK hM 9 rfl hv2 dX6_seed_10 ?_
  refine lv_iconst (v := (1 : Int32)) hx hb dX6_seed_11 (by decide) ?_
  refine lv_iadd hx hb dX6_seed_12 ?_
  replace h := ob h
  obtain ⟨σ3, hσ3, h⟩ := h
  refine m_iast S hK hM hS 9 rfl hσ3 dX6_seed_13 (fun H locs hM hS => ?_)
  refine lv_iconst (v := (0 : Int32)) hx hb dX6_seed_14 (by decide) ?_
  exact m_iret S hr hlk rfl hM hS h dX6_seed_15
/-! drawOf(I)I -/
abbrev rmX6_drawOf : Room := { frames := 1, cells := 0, slots := 0, locals := 0 }
def fX6_drawOf (σ : MS) (a1 : Int32) : Option (MS × Int32) :=
  (nzl a1.toInt64).bind fun d1 =>
  some ((sL σ 70 ((((1103515245 : Int64) * (σ.2.1 70)) + (12345 : Int64)) - (((1103515245 : Int64) * (σ.2.1 70)) + (12345 : Int64)) / (2147483648 : Int64) * (2147483648 : Int64))), ((((sL σ 70 ((((1103515245 : Int64) * (σ.2.1 70)) + (12345 : Int64)) - (((1103515245 : Int64) * (σ.2.1 70)) + (12345 : Int64)) / (2147483648 : Int64) * (2147483648 : Int64))).2.1 70) / (64 : Int64)) - (((sL σ 70 ((((1103515245 : Int64) * (σ.2.1 70)) + (12345 : Int64)) - (((1103515245 : Int64) * (σ.2.1 70)) + (12345 : Int64)) / (2147483648 : Int64) * (2147483648 : Int64))).2.1 70) / (64 : Int64)) / a1.toInt64 * a1.toInt64).toInt32)
set_option maxHeartbeats 4000000 in
theorem metX6_drawOf {l : Launch} {G : mG} {b : Nat} {σ : MS} {a1 : Int32} {x : MS × Int32} (h : fX6_drawOf σ a1 = some x) : Met l yX6_drawOf (ws_ yX6_drawOf cX6_drawOf 2 (some .int)) rmX6_drawOf (mP G b σ [.ref b, .int a1]) (mQi G b x) 0 0 (mB b) := by
  refine m_entry (by decide) rfl (Nat.le_of_ble_eq_true rfl) ?_
  intro p e s m below meth c S hr hlk hK hM hS ls hl
  replace hl : lv_has ls 2 [(0, .ref b), (1, .int a1)] := hl
  obtain ⟨hx, hb, hml, hown, hts⟩ := id S
  unfold fX6_drawOf at h
  refine lv_aload_n hx hb dX6_drawOf_0 rfl (lv_at hl 0 rfl) ?_
  refine lv_ldc2 hx hb hown (hts _ q2560) dX6_drawOf_1 ?_
  refine lv_aload_n hx hb dX6_drawOf_4 rfl (lv_at hl 0 rfl) ?_
  refine m_get S hK hM 70 (Nat.le_of_ble_eq_true rfl) q1802 (v := .long (σ.2.1 70)) rfl dX6_drawOf_5 ?_
  refine lv_lmul hx hb dX6_drawOf_8 ?_
  refine lv_ldc2 hx hb hown (hts _ q2561) dX6_drawOf_9 ?_
  refine lv_ladd hx hb dX6_drawOf_12 ?_
  refine lv_ldc2 hx hb hown (hts _ q2562) dX6_drawOf_13 ?_
  refine lv_lrem hx hb dX6_drawOf_16 (by decide) ?_
  refine m_putL S hK hM hS 70 (Nat.le_of_ble_eq_true rfl) rfl q1802 rfl rfl dX6_drawOf_17 (fun H locs hM hS => ?_)
  refine lv_aload_n hx hb dX6_drawOf_20 rfl (lv_at hl 0 rfl) ?_
  refine m_get S hK hM 70 (Nat.le_of_ble_eq_true rfl) q1802 (v := .long ((sL σ 70 ((((1103515245 : Int64) * (σ.2.1 70)) + (12345 : Int64)) - (((1103515245 : Int64) * (σ.2.1 70)) + (12345 : Int64)) / (2147483648 : Int64) * (2147483648 : Int64))).2.1 70)) rfl dX6_drawOf_21 ?_
  refine lv_ldc2 hx hb hown (hts _ q2563) dX6_drawOf_24 ?_
  refine lv_ldiv hx hb dX6_drawOf_27 (by decide) ?_
  refine lv_iload_n hx hb dX6_drawOf_28 rfl (lv_at hl 1 rfl) ?_
  refine lv_i2l (v := a1.toInt64) hx hb dX6_drawOf_29 rfl ?_
  replace h := ob h
  obtain ⟨d1, hd1, h⟩ := h
  obtain ⟨hd1, -⟩ := nzl_e hd1
  refine lv_lrem hx hb dX6_drawOf_30 hd1 ?_
  refine lv_l2i (v := ((((sL σ 70 ((((1103515245 : Int64) * (σ.2.1 70)) + (12345 : Int64)) - (((1103515245 : Int64) * (σ.2.1 70)) + (12345 : Int64)) / (2147483648 : Int64) * (2147483648 : Int64))).2.1 70) / (64 : Int64)) - (((sL σ 70 ((((1103515245 : Int64) * (σ.2.1 70)) + (12345 : Int64)) - (((1103515245 : Int64) * (σ.2.1 70)) + (12345 : Int64)) / (2147483648 : Int64) * (2147483648 : Int64))).2.1 70) / (64 : Int64)) / a1.toInt64 * a1.toInt64).toInt32) hx hb dX6_drawOf_31 rfl ?_
  exact m_iret S hr hlk rfl hM hS h dX6_drawOf_32
theorem kX6_drawOf {p : Program} {l : Launch} {e : Env} {R : Room} {s : State} {m : MethodId} {args : Array Value} {below : List Frame} {meth : Method} {c : Code} {H H0 : Heap} {locs : List Loc} {Q : State → Prop} {cc : ByteArray} {nL pc : Nat} {ls : Array Slot} {rest : List Value} {G : mG} {b : Nat} {σ : MS} {a1 : Int32} {x : MS × Int32} (S : CallFix p m c cc nL s args lw_all RX6) (hK : mK G s) (hM : MW G b σ H) (hS : va_S (mB b) H0 H locs) (hf : fX6_drawOf σ a1 = some x) (hR : rmX6_drawOf.frames + 1 ≤ R.frames ∧ 8 + (2 + 11) + rmX6_drawOf.locals ≤ R.locals) (hsize : ls.size = nL) (hr : (rest.map fun v => v.category).sum ≤ 8) (hdg : decode cc pc = .ok (.invokevirtual 589, 3)) (kk : ∀ (H1 : Heap) (locs1 : List Loc), MW G b x.1 H1 → va_S (mB b) H0 H1 locs1 → W p l e R s m args below meth c H1 locs1 0 0 Q (F0 m (pc + 3) ls (.int x.2 :: rest))) : W p l e R s m args below meth c H locs 0 0 Q (F0 m pc ls (.int a1 :: .ref b :: rest)) :=
  m_cVi (As := [.int a1]) S hK hM hS (metX6_drawOf hf) (cwV 1 S.2.2.2.2 (lw_V q2556 q2558 qs155 q179 q2559) rfl rfl rfl (by decide +kernel) hR) ⟨Nat.zero_le _, Nat.zero_le _⟩ rfl hsize rfl hr hdg kk
/-! isStranger()Z -/
abbrev rmX6_isStranger : Room := { frames := 6, cells := 0, slots := 0, locals := 117 }
def fX6_isStranger (σ : MS) : Option (MS × Int32) :=
  (fX6_drawOf σ (100 : Int32)).bind fun x1 =>
  (aI x1.1 47 (7 : Int32)).bind fun v2 =>
  if v2 ≤ x1.2 then
    some (x1.1, (0 : Int32))
  else
  (fX6_filmMany x1.1).bind fun x4 =>
  if x4 = 0 then
    some (x1.1, (0 : Int32))
  else
  (fX6_filmMany x1.1).bind fun x6 =>
  (fX6_drawOf x1.1 x6).bind fun x7 =>
  (fX6_seenBy x7.1 (0 : Int32) x7.2).bind fun x8 =>
  (fX6_partsOf x7.1 x7.2).bind fun x9 =>
  if x8 = x9 then
    some (x7.1, (0 : Int32))
  else
  (fX6_partSeen x7.1 (0 : Int32) x7.2).bind fun x11 =>
  (fX6_isKept x11 (9 : Int32) x7.2).bind fun x12 =>
  some (x12, (1 : Int32))
set_option maxHeartbeats 4000000 in
theorem metX6_isStranger {l : Launch} {G : mG} {b : Nat} {σ : MS} {x : MS × Int32} (h : fX6_isStranger σ = some x) : Met l yX6_isStranger (ws_ yX6_isStranger cX6_isStranger 2 (some .boolean)) rmX6_isStranger (mP G b σ [.ref b]) (mQi G b x) 0 0 (mB b) := by
  refine m_entry (by decide) rfl (Nat.le_of_ble_eq_true rfl) ?_
  intro p e s m below meth c S hr hlk hK hM hS ls hl
  replace hl : lv_has ls 2 [(0, .ref b)] := hl
  obtain ⟨hx, hb, hml, hown, hts⟩ := id S
  unfold fX6_isStranger at h
  refine lv_aload_n hx hb dX6_isStranger_0 rfl (lv_at hl 0 rfl) ?_
  refine lv_bipush (v := (100 : Int32)) hx hb dX6_isStranger_1 (by decide) ?_
  replace h := ob h
  obtain ⟨x1, hx1, h⟩ := h
  refine kX6_drawOf S hK hM hS hx1 ⟨Nat.le_of_ble_eq_true rfl, Nat.le_of_ble_eq_true rfl⟩ hl.1 (Nat.le_of_ble_eq_true rfl) dX6_isStranger_3 (fun H locs hM hS => ?_)
  refine lv_aload_n hx hb dX6_isStranger_6 rfl (lv_at hl 0 rfl) ?_
  refine m_get S hK hM 47 (Nat.le_of_ble_eq_true rfl) q1779 (v := .ref (ma b 47)) rfl dX6_isStranger_7 ?_
  refine lv_bipush (v := (7 : Int32)) hx hb dX6_isStranger_10 (by decide) ?_
  replace h := ob h
  obtain ⟨v2, hv2, h⟩ := h
  refine m_iald S hK hM 47 rfl hv2 dX6_isStranger_12 ?_
  refine lv_icmp_ge (tgt := 23) hx hb dX6_isStranger_13 (by decide) (fun c3 => ?_) (fun c3 => ?_)
  · replace h := it c3 h
    refine lv_iconst (v := (0 : Int32)) hx hb dX6_isStranger_23 (by decide) ?_
    exact m_iret S hr hlk rfl hM hS h dX6_isStranger_24
  replace h := ie c3 h
  refine lv_aload_n hx hb dX6_isStranger_16 rfl (lv_at hl 0 rfl) ?_
  replace h := ob h
  obtain ⟨x4, hx4, h⟩ := h
  refine kX6_filmMany S hK hM hS hx4 ⟨Nat.le_of_ble_eq_true rfl, Nat.le_of_ble_eq_true rfl⟩ hl.1 (Nat.le_of_ble_eq_true rfl) dX6_isStranger_17 (fun H locs hM hS => ?_)
  refine lv_if_ne (tgt := 25) hx hb dX6_isStranger_20 (by decide) (fun c5 => ?_) (fun c5 => ?_)
  rotate_left 1
  · replace h := it c5 h
    refine lv_iconst (v := (0 : Int32)) hx hb dX6_isStranger_23 (by decide) ?_
    exact m_iret S hr hlk rfl hM hS h dX6_isStranger_24
  replace h := ie c5 h
  refine lv_aload_n hx hb dX6_isStranger_25 rfl (lv_at hl 0 rfl) ?_
  refine lv_aload_n hx hb dX6_isStranger_26 rfl (lv_at hl 0 rfl) ?_
  replace h := ob h
  obtain ⟨x6, hx6, h⟩ := h
  refine kX6_filmMany S hK hM hS hx6 ⟨Nat.le_of_ble_eq_true rfl, Nat.le_of_ble_eq_true rfl⟩ hl.1 (Nat.le_of_ble_eq_true rfl) dX6_isStranger_27 (fun H locs hM hS => ?_)
  replace h := ob h
  obtain ⟨x7, hx7, h⟩ := h
  refine kX6_drawOf S hK hM hS hx7 ⟨Nat.le_of_ble_eq_true rfl, Nat.le_of_ble_eq_true rfl⟩ hl.1 (Nat.le_of_ble_eq_true rfl) dX6_isStranger_30 (fun H locs hM hS => ?_)
  refine lv_istore_n (lv' := [(1, .int x7.2), (0, .ref b)]) hx hb dX6_isStranger_33 rfl hl (by decide) rfl (fun ls hl => ?_)
  refine lv_aload_n hx hb dX6_isStranger_34 rfl (lv_at hl 1 rfl) ?_
  refine lv_iconst (v := (0 : Int32)) hx hb dX6_isStranger_35 (by decide) ?_
  refine lv_iload_n hx hb dX6_isStranger_36 rfl (lv_at hl 0 rfl) ?_
  replace h := ob h
  obtain ⟨x8, hx8, h⟩ := h
  refine kX6_seenBy S hK hM hS hx8 ⟨Nat.le_of_ble_eq_true rfl, Nat.le_of_ble_eq_true rfl⟩ hl.1 (Nat.le_of_ble_eq_true rfl) dX6_isStranger_37 (fun H locs hM hS => ?_)
  refine lv_aload_n hx hb dX6_isStranger_40 rfl (lv_at hl 1 rfl) ?_
  refine lv_iload_n hx hb dX6_isStranger_41 rfl (lv_at hl 0 rfl) ?_
  replace h := ob h
  obtain ⟨x9, hx9, h⟩ := h
  refine kX6_partsOf S hK hM hS hx9 ⟨Nat.le_of_ble_eq_true rfl, Nat.le_of_ble_eq_true rfl⟩ hl.1 (Nat.le_of_ble_eq_true rfl) dX6_isStranger_42 (fun H locs hM hS => ?_)
  refine lv_icmp_ne (tgt := 50) hx hb dX6_isStranger_45 (by decide) (fun c10 => ?_) (fun c10 => ?_)
  rotate_left 1
  · replace h := it c10 h
    refine lv_iconst (v := (0 : Int32)) hx hb dX6_isStranger_48 (by decide) ?_
    exact m_iret S hr hlk rfl hM hS h dX6_isStranger_49
  replace h := ie c10 h
  refine lv_aload_n hx hb dX6_isStranger_50 rfl (lv_at hl 1 rfl) ?_
  refine lv_iconst (v := (0 : Int32)) hx hb dX6_isStranger_51 (by decide) ?_
  refine lv_iload_n hx hb dX6_isStranger_52 rfl (lv_at hl 0 rfl) ?_
  replace h := ob h
  obtain ⟨x11, hx11, h⟩ := h
  refine kX6_partSeen S hK hM hS hx11 ⟨Nat.le_of_ble_eq_true rfl, Nat.le_of_ble_eq_true rfl⟩ hl.1 (Nat.le_of_ble_eq_true rfl) dX6_isStranger_53 (fun H locs hM hS => ?_)
  refine lv_aload_n hx hb dX6_isStranger_56 rfl (lv_at hl 1 rfl) ?_
  refine lv_bipush (v := (9 : Int32)) hx hb dX6_isStranger_57 (by decide) ?_
  refine lv_iload_n hx hb dX6_isStranger_59 rfl (lv_at hl 0 rfl) ?_
  replace h := ob h
  obtain ⟨x12, hx12, h⟩ := h
  refine kX6_isKept S hK hM hS hx12 ⟨Nat.le_of_ble_eq_true rfl, Nat.le_of_ble_eq_true rfl⟩ hl.1 (Nat.le_of_ble_eq_true rfl) dX6_isStranger_60 (fun H locs hM hS => ?_)
  refine lv_iconst (v := (1 : Int32)) hx hb dX6_isStranger_63 (by decide) ?_
  exact m_iret S hr hlk rfl hM hS h dX6_isStranger_64
theorem kX6_isStranger {p : Program} {l : Launch} {e : Env} {R : Room} {s : State} {m : MethodId} {args : Array Value} {below : List Frame} {meth : Method} {c : Code} {H H0 : Heap} {locs : List Loc} {Q : State → Prop} {cc : ByteArray} {nL pc : Nat} {ls : Array Slot} {rest : List Value} {G : mG} {b : Nat} {σ : MS} {x : MS × Int32} (S : CallFix p m c cc nL s args lw_all RX6) (hK : mK G s) (hM : MW G b σ H) (hS : va_S (mB b) H0 H locs) (hf : fX6_isStranger σ = some x) (hR : rmX6_isStranger.frames + 1 ≤ R.frames ∧ 8 + (2 + 11) + rmX6_isStranger.locals ≤ R.locals) (hsize : ls.size = nL) (hr : (rest.map fun v => v.category).sum ≤ 8) (hdg : decode cc pc = .ok (.invokevirtual 592, 3)) (kk : ∀ (H1 : Heap) (locs1 : List Loc), MW G b x.1 H1 → va_S (mB b) H0 H1 locs1 → W p l e R s m args below meth c H1 locs1 0 0 Q (F0 m (pc + 3) ls (.int x.2 :: rest))) : W p l e R s m args below meth c H locs 0 0 Q (F0 m pc ls (.ref b :: rest)) :=
  m_cVi (As := []) S hK hM hS (metX6_isStranger hf) (cwV 0 S.2.2.2.2 (lw_V q2552 q2554 qs154 q179 q2555) rfl rfl rfl (by decide +kernel) hR) ⟨Nat.zero_le _, Nat.zero_le _⟩ rfl hsize rfl hr hdg kk
/-! chance(I)I -/
abbrev rmX6_chance : Room := { frames := 8, cells := 0, slots := 0, locals := 161 }
def fX6_chance_40 (k25 : MS → Int32 → Int32 → Int32 → Option (MS × Int32)) (σ : MS) (a1 : Int32) (a2 : Int32) (a3 : Int32) : Option (MS × Int32) :=
  (fX6_hourGoes σ).bind fun x1 =>
  k25 x1.1 a1 a2 (a3 + (1 : Int32))
def fX6_chance_25 : Nat → MS → Int32 → Int32 → Int32 → Option (MS × Int32)
  | 0, _, _, _, _ => none
  | n + 1, σ, a1, a2, a3 =>
    if a1 ≤ a3 then
      some (σ, a2)
    else
    (fX6_isStranger σ).bind fun x2 =>
    if x2.2 = 0 then
      fX6_chance_40 (fun σ' b1 b2 b3 => fX6_chance_25 n σ' b1 b2 b3) x2.1 a1 a2 a3
    else
    fX6_chance_40 (fun σ' b1 b2 b3 => fX6_chance_25 n σ' b1 b2 b3) x2.1 a1 (a2 + (1 : Int32)) a3
def fX6_chance (σ : MS) (a1 : Int32) : Option (MS × Int32) :=
  (fX6_isAhead σ a1 (1 : Int32) (100 : Int32)).bind fun x1 =>
  if x1 = 0 then
    (fX6_refuses σ (3 : Int32)).bind fun x4 =>
    some (x4.1, x4.2)
  else
  (fX6_keeps σ).bind fun x3 =>
  fX6_chance_25 FU x3 a1 (0 : Int32) (0 : Int32)
set_option maxHeartbeats 4000000 in
theorem wX6_chance_40 {p : Program} {l : Launch} {e : Env} {s : State} {m : MethodId} {args : Array Value} {below : List Frame} {meth : Method} {c : Code} {G : mG} {b : Nat} (S : CallFix p m c cX6_chance 4 s args lw_all RX6) (hr : meth.sig.returnType = some .int) (hlk : meth.locks = false) (hK : mK G s) {x : MS × Int32} {k25 : MS → Int32 → Int32 → Int32 → Option (MS × Int32)} (hk25 : ∀ σ a1 a2 a3, k25 σ a1 a2 a3 = some x → mGo p l e rmX6_chance s m args below meth c G b (MQ below (mQi G b x) args s 0 0 (mB b)) 4 25 [(0, .ref b), (1, .int a1), (2, .int a2), (3, .int a3)] [] σ) : ∀ (σ : MS) (a1 : Int32) (a2 : Int32) (a3 : Int32), fX6_chance_40 k25 σ a1 a2 a3 = some x → mGo p l e rmX6_chance s m args below meth c G b (MQ below (mQi G b x) args s 0 0 (mB b)) 4 40 [(0, .ref b), (1, .int a1), (2, .int a2), (3, .int a3)] [] σ := by
  obtain ⟨hx, hb, hml, hown, hts⟩ := id S
  intro σ a1 a2 a3 h H locs hM hS ls hl
  unfold fX6_chance_40 at h
  refine lv_aload_n hx hb dX6_chance_40 rfl (lv_at hl 0 rfl) ?_
  replace h := ob h
  obtain ⟨x1, hx1, h⟩ := h
  refine kX6_hourGoes S hK hM hS hx1 ⟨Nat.le_of_ble_eq_true rfl, Nat.le_of_ble_eq_true rfl⟩ hl.1 (Nat.le_of_ble_eq_true rfl) dX6_chance_41 (fun H locs hM hS => ?_)
  refine lv_pop hx hb dX6_chance_44 rfl ?_
  refine lv_iinc (v := (a3 + (1 : Int32))) (lv' := [(3, .int (a3 + (1 : Int32))), (0, .ref b), (1, .int a1), (2, .int a2)]) hx hb dX6_chance_45 hl (k := 3) rfl rfl (by decide) rfl (fun ls hl => ?_)
  refine lv_goto (tgt := 25) hx hb dX6_chance_48 (by decide) ?_
  exact hk25 x1.1 a1 a2 (a3 + (1 : Int32)) h _ _ hM hS _ (lv_sub hl [1, 2, 3, 0] rfl)
set_option maxHeartbeats 4000000 in
theorem wX6_chance_25 {p : Program} {l : Launch} {e : Env} {s : State} {m : MethodId} {args : Array Value} {below : List Frame} {meth : Method} {c : Code} {G : mG} {b : Nat} (S : CallFix p m c cX6_chance 4 s args lw_all RX6) (hr : meth.sig.returnType = some .int) (hlk : meth.locks = false) (hK : mK G s) {x : MS × Int32} : ∀ (n : Nat) (σ : MS) (a1 : Int32) (a2 : Int32) (a3 : Int32), fX6_chance_25 n σ a1 a2 a3 = some x → mGo p l e rmX6_chance s m args below meth c G b (MQ below (mQi G b x) args s 0 0 (mB b)) 4 25 [(0, .ref b), (1, .int a1), (2, .int a2), (3, .int a3)] [] σ := by
  obtain ⟨hx, hb, hml, hown, hts⟩ := id S
  intro n
  induction n with
  | zero => intro σ a1 a2 a3 h; cases h
  | succ n ih =>
    intro σ a1 a2 a3 h H locs hM hS ls hl
    rw [fX6_chance_25] at h
    refine lv_iload_n hx hb dX6_chance_25 rfl (lv_at hl 3 rfl) ?_
    refine lv_iload_n hx hb dX6_chance_26 rfl (lv_at hl 1 rfl) ?_
    refine lv_icmp_ge (tgt := 51) hx hb dX6_chance_27 (by decide) (fun c1 => ?_) (fun c1 => ?_)
    · replace h := it c1 h
      refine lv_iload_n hx hb dX6_chance_51 rfl (lv_at hl 2 rfl) ?_
      exact m_iret S hr hlk rfl hM hS h dX6_chance_52
    replace h := ie c1 h
    refine lv_aload_n hx hb dX6_chance_30 rfl (lv_at hl 0 rfl) ?_
    replace h := ob h
    obtain ⟨x2, hx2, h⟩ := h
    refine kX6_isStranger S hK hM hS hx2 ⟨Nat.le_of_ble_eq_true rfl, Nat.le_of_ble_eq_true rfl⟩ hl.1 (Nat.le_of_ble_eq_true rfl) dX6_chance_31 (fun H locs hM hS => ?_)
    refine lv_if_eq (tgt := 40) hx hb dX6_chance_34 (by decide) (fun c3 => ?_) (fun c3 => ?_)
    · replace h := it c3 h
      exact wX6_chance_40 S hr hlk hK ih x2.1 a1 a2 a3 h _ _ hM hS _ (lv_sub hl [0, 1, 2, 3] rfl)
    replace h := ie c3 h
    refine lv_iinc (v := (a2 + (1 : Int32))) (lv' := [(2, .int (a2 + (1 : Int32))), (0, .ref b), (1, .int a1), (3, .int a3)]) hx hb dX6_chance_37 hl (k := 2) rfl rfl (by decide) rfl (fun ls hl => ?_)
    exact wX6_chance_40 S hr hlk hK ih x2.1 a1 (a2 + (1 : Int32)) a3 h _ _ hM hS _ (lv_sub hl [1, 2, 0, 3] rfl)
set_option maxHeartbeats 4000000 in
theorem metX6_chance {l : Launch} {G : mG} {b : Nat} {σ : MS} {a1 : Int32} {x : MS × Int32} (h : fX6_chance σ a1 = some x) : Met l yX6_chance (ws_ yX6_chance cX6_chance 4 (some .int)) rmX6_chance (mP G b σ [.ref b, .int a1]) (mQi G b x) 0 0 (mB b) := by
  refine m_entry (by decide) rfl (Nat.le_of_ble_eq_true rfl) ?_
  intro p e s m below meth c S hr hlk hK hM hS ls hl
  replace hl : lv_has ls 4 [(0, .ref b), (1, .int a1)] := hl
  obtain ⟨hx, hb, hml, hown, hts⟩ := id S
  unfold fX6_chance at h
  refine lv_aload_n hx hb dX6_chance_0 rfl (lv_at hl 0 rfl) ?_
  refine lv_iload_n hx hb dX6_chance_1 rfl (lv_at hl 1 rfl) ?_
  refine lv_iconst (v := (1 : Int32)) hx hb dX6_chance_2 (by decide) ?_
  refine lv_bipush (v := (100 : Int32)) hx hb dX6_chance_3 (by decide) ?_
  replace h := ob h
  obtain ⟨x1, hx1, h⟩ := h
  refine kX6_isAhead S hK hM hS hx1 ⟨Nat.le_of_ble_eq_true rfl, Nat.le_of_ble_eq_true rfl⟩ hl.1 (Nat.le_of_ble_eq_true rfl) dX6_chance_5 (fun H locs hM hS => ?_)
  refine lv_if_ne (tgt := 17) hx hb dX6_chance_8 (by decide) (fun c2 => ?_) (fun c2 => ?_)
  rotate_left 1
  · replace h := it c2 h
    refine lv_aload_n hx hb dX6_chance_11 rfl (lv_at hl 0 rfl) ?_
    refine lv_iconst (v := (3 : Int32)) hx hb dX6_chance_12 (by decide) ?_
    replace h := ob h
    obtain ⟨x4, hx4, h⟩ := h
    refine kX6_refuses S hK hM hS hx4 ⟨Nat.le_of_ble_eq_true rfl, Nat.le_of_ble_eq_true rfl⟩ hl.1 (Nat.le_of_ble_eq_true rfl) dX6_chance_13 (fun H locs hM hS => ?_)
    exact m_iret S hr hlk rfl hM hS h dX6_chance_16
  replace h := ie c2 h
  refine lv_aload_n hx hb dX6_chance_17 rfl (lv_at hl 0 rfl) ?_
  replace h := ob h
  obtain ⟨x3, hx3, h⟩ := h
  refine kX6_keeps S hK hM hS hx3 ⟨Nat.le_of_ble_eq_true rfl, Nat.le_of_ble_eq_true rfl⟩ hl.1 (Nat.le_of_ble_eq_true rfl) dX6_chance_18 (fun H locs hM hS => ?_)
  refine lv_iconst (v := (0 : Int32)) hx hb dX6_chance_21 (by decide) ?_
  refine lv_istore_n (lv' := [(2, .int (0 : Int32)), (0, .ref b), (1, .int a1)]) hx hb dX6_chance_22 rfl hl (by decide) rfl (fun ls hl => ?_)
  refine lv_iconst (v := (0 : Int32)) hx hb dX6_chance_23 (by decide) ?_
  refine lv_istore_n (lv' := [(3, .int (0 : Int32)), (2, .int (0 : Int32)), (0, .ref b), (1, .int a1)]) hx hb dX6_chance_24 rfl hl (by decide) rfl (fun ls hl => ?_)
  exact wX6_chance_25 S hr hlk hK FU x3 a1 (0 : Int32) (0 : Int32) h _ _ hM hS _ (lv_sub hl [2, 3, 1, 0] rfl)

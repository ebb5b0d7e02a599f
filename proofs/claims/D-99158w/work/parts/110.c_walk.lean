set_option maxRecDepth 100000
/-! java/util/AbstractCollection.<init>()V -/
def fJ0_init (K : KE) (h : HS) (a0 : Nat) : Option (Unit) :=
  some ()
set_option maxHeartbeats 4000000 in
theorem metJ0_init {l : Launch} {A : Nat → Prop} {D : va_G} {ac : Nat → ClassId} {K : KE} {h : HS} {a0 : Nat} {x : Unit} (z : fJ0_init K h a0 = some x) : Met l yJ0_init (ws_ yJ0_init cJ0_init 1 (none)) (rmC 2 40 K h) (cP A D ac K h [va_rf (some a0)]) (cQv A D ac K h) (K.2.2.1 - h.2.1) (K.2.2.2 - h.2.2) A := by
  refine c_entry (plainFor_of_name (by decide)) (Nat.le_of_ble_eq_true rfl) ?_
  intro p e s m below meth c S hr hlk hnm hG hRM hH hS ls hl
  replace hl : lv_has ls 1 [(0, va_rf (some a0))] := hl
  replace hnm : meth.name = "<init>" := hnm
  replace S : CallFix p m c cJ0_init 1 s _ lw_all RJ0 := S
  obtain ⟨hx, hb, hml, hown, hts⟩ := id S
  unfold fJ0_init at z
  refine c_aload_n hx hb dJ0_init_0 rfl (lv_at hl 0 rfl) ?_
  refine c_obj S q232 q213 q214 hl.1 (Nat.le_of_ble_eq_true rfl) (Nat.le_of_ble_eq_true rfl) (Nat.le_of_ble_eq_true rfl) dJ0_init_1 ?_
  exact c_vret' S hr hlk hH hS z dJ0_init_4
/-! java/util/AbstractList.<init>()V -/
def fJ1_init (K : KE) (h : HS) (a0 : Nat) : Option (HS) :=
  (fJ0_init K h a0).bind fun x1 =>
  (pV h (some a0) 19 0 (.int (0 : Int32))).bind fun h2 =>
  some h2
set_option maxHeartbeats 4000000 in
theorem metJ1_init {l : Launch} {A : Nat → Prop} {D : va_G} {ac : Nat → ClassId} {K : KE} {h : HS} {a0 : Nat} {x : HS} (z : fJ1_init K h a0 = some x) : Met l yJ1_init (ws_ yJ1_init cJ1_init 1 (none)) (rmC 3 60 K h) (cP A D ac K h [va_rf (some a0)]) (cQv A D ac K x) (K.2.2.1 - h.2.1) (K.2.2.2 - h.2.2) A := by
  refine c_entry (plainFor_of_name (by decide)) (Nat.le_of_ble_eq_true rfl) ?_
  intro p e s m below meth c S hr hlk hnm hG hRM hH hS ls hl
  replace hl : lv_has ls 1 [(0, va_rf (some a0))] := hl
  replace hnm : meth.name = "<init>" := hnm
  replace S : CallFix p m c cJ1_init 1 s _ lw_all RJ1 := S
  obtain ⟨hx, hb, hml, hown, hts⟩ := id S
  unfold fJ1_init at z
  refine c_aload_n hx hb dJ1_init_0 rfl (lv_at hl 0 rfl) ?_
  replace z := ob z
  obtain ⟨x1, zx1, z⟩ := z
  refine c_callv hH hS hRM (fun _ _ f1 f2 => va_runI (b := a0) (As := []) (rest := []) S (metJ0_init zx1) (cwI 0 hts (lw_meth q231) rfl rfl rfl (hts _ q169) (hts _ q229) (hts _ q230) rfl (by decide +kernel) ⟨(Nat.le_of_ble_eq_true rfl), (Nat.le_of_ble_eq_true rfl)⟩) (c_pre hG hH hS) rfl rfl hl.1 rfl (lv_room (Nat.le_of_ble_eq_true rfl)) dJ1_init_1 ⟨f1, f2⟩) (fun H locs hH hS => ?_)
  refine c_aload_n hx hb dJ1_init_4 rfl (lv_at hl 0 rfl) ?_
  refine lv_iconst (v := (0 : Int32)) hx hb dJ1_init_5 (by decide) ?_
  replace z := ob z
  obtain ⟨h2, zh2, z⟩ := z
  refine c_put S hG hH hS (ci := 19) (k := 0) rfl in_J2 tyJ2 tyJ2_ok nmJ2 (Nat.le_of_ble_eq_true rfl) q239 (fun _ y => y) rfl (ty := .int) rfl rfl rfl zh2 dJ1_init_6 (fun H locs hH hS => ?_)
  exact c_vret S hr hlk hH hS z dJ1_init_9
/-! jdk/internal/util/ArraysSupport.hashCode(I[BII)I -/
def fJ10_hashCode_2_8 (K : KE) (h : HS) : Nat → Int32 → Option Nat → Int32 → Int32 → Option (Int32)
  | 0, _, _, _, _ => none
  | n + 1, a0, a1, a4, a5 =>
    if a4 ≤ a5 then
      some a0
    else
    (cI K h a1 3 a5).bind fun v2 =>
    fJ10_hashCode_2_8 K h n (((31 : Int32) * a0) + v2) a1 a4 (a5 + (1 : Int32))
def fJ10_hashCode_2 (K : KE) (h : HS) (a0 : Int32) (a1 : Option Nat) (a2 : Int32) (a3 : Int32) : Option (Int32) :=
  fJ10_hashCode_2_8 K h FU a0 a1 (a2 + a3) a2
set_option maxHeartbeats 4000000 in
theorem wJ10_hashCode_2_8 {p : Program} {l : Launch} {e : Env} {s : State} {m : MethodId} {args : Array Value} {below : List Frame} {meth : Method} {c : Code} {A : Nat → Prop} {D : va_G} {ac : Nat → ClassId} {K : KE} {h : HS} (S : CallFix p m c cJ10_hashCode_2 6 s args lw_all RJ10) (hr : meth.sig.returnType = some .int) (hlk : meth.locks = false) (hnm : meth.name = "hashCode") (hG : GK A D ac K s) (hRM : RM K s (rmC 1 0 K h)) {x : Int32} : ∀ (n : Nat) (a0 : Int32) (a1 : Option Nat) (a4 : Int32) (a5 : Int32), fJ10_hashCode_2_8 K h n a0 a1 a4 a5 = some x → cGo p l e (rmC 1 0 K h) s m args below meth c A D ac K (MQ below (cQi A D ac K (h, x)) args s (K.2.2.1 - h.2.1) (K.2.2.2 - h.2.2) A) 6 8 [(0, .int a0), (1, va_rf a1), (4, .int a4), (5, .int a5)] [] h := by
  obtain ⟨hx, hb, hml, hown, hts⟩ := id S
  intro n
  induction n with
  | zero => intro a0 a1 a4 a5 z; cases z
  | succ n ih =>
    intro a0 a1 a4 a5 z H locs hH hS ls hl
    rw [fJ10_hashCode_2_8] at z
    refine lv_iload hx hb dJ10_hashCode_2_8 (lv_at hl 3 rfl) ?_
    refine lv_iload hx hb dJ10_hashCode_2_10 (lv_at hl 2 rfl) ?_
    refine lv_icmp_ge (tgt := 31) hx hb dJ10_hashCode_2_12 (by decide) (fun c1 => ?_) (fun c1 => ?_)
    · replace z := it c1 z
      refine lv_iload_n hx hb dJ10_hashCode_2_31 rfl (lv_at hl 0 rfl) ?_
      exact c_iret' S hr hlk rfl hH hS z dJ10_hashCode_2_32
    replace z := ie c1 z
    refine lv_bipush (v := (31 : Int32)) hx hb dJ10_hashCode_2_15 (by decide) ?_
    refine lv_iload_n hx hb dJ10_hashCode_2_17 rfl (lv_at hl 0 rfl) ?_
    refine lv_imul hx hb dJ10_hashCode_2_18 ?_
    refine c_aload_n hx hb dJ10_hashCode_2_19 rfl (lv_at hl 1 rfl) ?_
    refine lv_iload hx hb dJ10_hashCode_2_20 (lv_at hl 3 rfl) ?_
    replace z := ob z
    obtain ⟨v2, zv2, z⟩ := z
    refine c_bald S hG hH zv2 dJ10_hashCode_2_22 ?_
    refine lv_iadd hx hb dJ10_hashCode_2_23 ?_
    refine lv_istore_n (lv' := [(0, .int (((31 : Int32) * a0) + v2)), (1, va_rf a1), (4, .int a4), (5, .int a5)]) hx hb dJ10_hashCode_2_24 rfl hl (by decide) rfl (fun ls hl => ?_)
    refine lv_iinc (v := (a5 + (1 : Int32))) (lv' := [(5, .int (a5 + (1 : Int32))), (0, .int (((31 : Int32) * a0) + v2)), (1, va_rf a1), (4, .int a4)]) hx hb dJ10_hashCode_2_25 hl (k := 3) rfl rfl (by decide) rfl (fun ls hl => ?_)
    refine lv_goto (tgt := 8) hx hb dJ10_hashCode_2_28 (by decide) ?_
    exact ih (((31 : Int32) * a0) + v2) a1 a4 (a5 + (1 : Int32)) z _ _ hH hS _ (lv_sub hl [1, 2, 3, 0] rfl)
set_option maxHeartbeats 4000000 in
theorem metJ10_hashCode_2 {l : Launch} {A : Nat → Prop} {D : va_G} {ac : Nat → ClassId} {K : KE} {h : HS} {a0 : Int32} {a1 : Option Nat} {a2 : Int32} {a3 : Int32} {x : Int32} (z : fJ10_hashCode_2 K h a0 a1 a2 a3 = some x) : Met l yJ10_hashCode_2 (ws_ yJ10_hashCode_2 cJ10_hashCode_2 6 (some .int)) (rmC 1 0 K h) (cP A D ac K h [.int a0, va_rf a1, .int a2, .int a3]) (cQi A D ac K (h, x)) (K.2.2.1 - h.2.1) (K.2.2.2 - h.2.2) A := by
  refine c_entry (plainFor_of_name (by decide)) (by simp [lg_sl, ct_r, ct_i, ct_l]) ?_
  intro p e s m below meth c S hr hlk hnm hG hRM hH hS ls hl
  replace hl : lv_has ls 6 [(0, .int a0), (1, va_rf a1), (2, .int a2), (3, .int a3)] := (by simpa [lv_args, ct_r, ct_i, ct_l] using hl)
  replace hnm : meth.name = "hashCode" := hnm
  replace S : CallFix p m c cJ10_hashCode_2 6 s _ lw_all RJ10 := S
  obtain ⟨hx, hb, hml, hown, hts⟩ := id S
  unfold fJ10_hashCode_2 at z
  refine lv_iload_n hx hb dJ10_hashCode_2_0 rfl (lv_at hl 2 rfl) ?_
  refine lv_iload_n hx hb dJ10_hashCode_2_1 rfl (lv_at hl 3 rfl) ?_
  refine lv_iadd hx hb dJ10_hashCode_2_2 ?_
  refine lv_istore (lv' := [(4, .int (a2 + a3)), (0, .int a0), (1, va_rf a1), (2, .int a2), (3, .int a3)]) hx hb dJ10_hashCode_2_3 hl (by decide) rfl (fun ls hl => ?_)
  refine lv_iload_n hx hb dJ10_hashCode_2_5 rfl (lv_at hl 3 rfl) ?_
  refine lv_istore (lv' := [(5, .int a2), (4, .int (a2 + a3)), (0, .int a0), (1, va_rf a1), (2, .int a2), (3, .int a3)]) hx hb dJ10_hashCode_2_6 hl (by decide) rfl (fun ls hl => ?_)
  exact wJ10_hashCode_2_8 S hr hlk hnm hG hRM FU a0 a1 (a2 + a3) a2 z _ _ hH hS _ (lv_sub hl [2, 3, 1, 0] rfl)
/-! jdk/internal/util/ArraysSupport.hashCode(I[III)I -/
def fJ10_hashCode_4_8 (K : KE) (h : HS) : Nat → Int32 → Option Nat → Int32 → Int32 → Option (Int32)
  | 0, _, _, _, _ => none
  | n + 1, a0, a1, a4, a5 =>
    if a4 ≤ a5 then
      some a0
    else
    (cI K h a1 0 a5).bind fun v2 =>
    fJ10_hashCode_4_8 K h n (((31 : Int32) * a0) + v2) a1 a4 (a5 + (1 : Int32))
def fJ10_hashCode_4 (K : KE) (h : HS) (a0 : Int32) (a1 : Option Nat) (a2 : Int32) (a3 : Int32) : Option (Int32) :=
  fJ10_hashCode_4_8 K h FU a0 a1 (a2 + a3) a2
set_option maxHeartbeats 4000000 in
theorem wJ10_hashCode_4_8 {p : Program} {l : Launch} {e : Env} {s : State} {m : MethodId} {args : Array Value} {below : List Frame} {meth : Method} {c : Code} {A : Nat → Prop} {D : va_G} {ac : Nat → ClassId} {K : KE} {h : HS} (S : CallFix p m c cJ10_hashCode_4 6 s args lw_all RJ10) (hr : meth.sig.returnType = some .int) (hlk : meth.locks = false) (hnm : meth.name = "hashCode") (hG : GK A D ac K s) (hRM : RM K s (rmC 1 0 K h)) {x : Int32} : ∀ (n : Nat) (a0 : Int32) (a1 : Option Nat) (a4 : Int32) (a5 : Int32), fJ10_hashCode_4_8 K h n a0 a1 a4 a5 = some x → cGo p l e (rmC 1 0 K h) s m args below meth c A D ac K (MQ below (cQi A D ac K (h, x)) args s (K.2.2.1 - h.2.1) (K.2.2.2 - h.2.2) A) 6 8 [(0, .int a0), (1, va_rf a1), (4, .int a4), (5, .int a5)] [] h := by
  obtain ⟨hx, hb, hml, hown, hts⟩ := id S
  intro n
  induction n with
  | zero => intro a0 a1 a4 a5 z; cases z
  | succ n ih =>
    intro a0 a1 a4 a5 z H locs hH hS ls hl
    rw [fJ10_hashCode_4_8] at z
    refine lv_iload hx hb dJ10_hashCode_4_8 (lv_at hl 3 rfl) ?_
    refine lv_iload hx hb dJ10_hashCode_4_10 (lv_at hl 2 rfl) ?_
    refine lv_icmp_ge (tgt := 31) hx hb dJ10_hashCode_4_12 (by decide) (fun c1 => ?_) (fun c1 => ?_)
    · replace z := it c1 z
      refine lv_iload_n hx hb dJ10_hashCode_4_31 rfl (lv_at hl 0 rfl) ?_
      exact c_iret' S hr hlk rfl hH hS z dJ10_hashCode_4_32
    replace z := ie c1 z
    refine lv_bipush (v := (31 : Int32)) hx hb dJ10_hashCode_4_15 (by decide) ?_
    refine lv_iload_n hx hb dJ10_hashCode_4_17 rfl (lv_at hl 0 rfl) ?_
    refine lv_imul hx hb dJ10_hashCode_4_18 ?_
    refine c_aload_n hx hb dJ10_hashCode_4_19 rfl (lv_at hl 1 rfl) ?_
    refine lv_iload hx hb dJ10_hashCode_4_20 (lv_at hl 3 rfl) ?_
    replace z := ob z
    obtain ⟨v2, zv2, z⟩ := z
    refine c_iald S hG hH zv2 dJ10_hashCode_4_22 ?_
    refine lv_iadd hx hb dJ10_hashCode_4_23 ?_
    refine lv_istore_n (lv' := [(0, .int (((31 : Int32) * a0) + v2)), (1, va_rf a1), (4, .int a4), (5, .int a5)]) hx hb dJ10_hashCode_4_24 rfl hl (by decide) rfl (fun ls hl => ?_)
    refine lv_iinc (v := (a5 + (1 : Int32))) (lv' := [(5, .int (a5 + (1 : Int32))), (0, .int (((31 : Int32) * a0) + v2)), (1, va_rf a1), (4, .int a4)]) hx hb dJ10_hashCode_4_25 hl (k := 3) rfl rfl (by decide) rfl (fun ls hl => ?_)
    refine lv_goto (tgt := 8) hx hb dJ10_hashCode_4_28 (by decide) ?_
    exact ih (((31 : Int32) * a0) + v2) a1 a4 (a5 + (1 : Int32)) z _ _ hH hS _ (lv_sub hl [1, 2, 3, 0] rfl)
set_option maxHeartbeats 4000000 in
theorem metJ10_hashCode_4 {l : Launch} {A : Nat → Prop} {D : va_G} {ac : Nat → ClassId} {K : KE} {h : HS} {a0 : Int32} {a1 : Option Nat} {a2 : Int32} {a3 : Int32} {x : Int32} (z : fJ10_hashCode_4 K h a0 a1 a2 a3 = some x) : Met l yJ10_hashCode_4 (ws_ yJ10_hashCode_4 cJ10_hashCode_4 6 (some .int)) (rmC 1 0 K h) (cP A D ac K h [.int a0, va_rf a1, .int a2, .int a3]) (cQi A D ac K (h, x)) (K.2.2.1 - h.2.1) (K.2.2.2 - h.2.2) A := by
  refine c_entry (plainFor_of_name (by decide)) (by simp [lg_sl, ct_r, ct_i, ct_l]) ?_
  intro p e s m below meth c S hr hlk hnm hG hRM hH hS ls hl
  replace hl : lv_has ls 6 [(0, .int a0), (1, va_rf a1), (2, .int a2), (3, .int a3)] := (by simpa [lv_args, ct_r, ct_i, ct_l] using hl)
  replace hnm : meth.name = "hashCode" := hnm
  replace S : CallFix p m c cJ10_hashCode_4 6 s _ lw_all RJ10 := S
  obtain ⟨hx, hb, hml, hown, hts⟩ := id S
  unfold fJ10_hashCode_4 at z
  refine lv_iload_n hx hb dJ10_hashCode_4_0 rfl (lv_at hl 2 rfl) ?_
  refine lv_iload_n hx hb dJ10_hashCode_4_1 rfl (lv_at hl 3 rfl) ?_
  refine lv_iadd hx hb dJ10_hashCode_4_2 ?_
  refine lv_istore (lv' := [(4, .int (a2 + a3)), (0, .int a0), (1, va_rf a1), (2, .int a2), (3, .int a3)]) hx hb dJ10_hashCode_4_3 hl (by decide) rfl (fun ls hl => ?_)
  refine lv_iload_n hx hb dJ10_hashCode_4_5 rfl (lv_at hl 3 rfl) ?_
  refine lv_istore (lv' := [(5, .int a2), (4, .int (a2 + a3)), (0, .int a0), (1, va_rf a1), (2, .int a2), (3, .int a3)]) hx hb dJ10_hashCode_4_6 hl (by decide) rfl (fun ls hl => ?_)
  exact wJ10_hashCode_4_8 S hr hlk hnm hG hRM FU a0 a1 (a2 + a3) a2 z _ _ hH hS _ (lv_sub hl [2, 3, 1, 0] rfl)
/-! jdk/internal/util/ArraysSupport.signedHashCode(I[BII)I -/
def fJ10_signedHashCode_8 (K : KE) (h : HS) : Nat → Int32 → Option Nat → Int32 → Int32 → Option (Int32)
  | 0, _, _, _, _ => none
  | n + 1, a0, a1, a4, a5 =>
    if a4 ≤ a5 then
      some a0
    else
    (cI K h a1 3 a5).bind fun v2 =>
    fJ10_signedHashCode_8 K h n (((31 : Int32) * a0) + (v2 &&& (255 : Int32))) a1 a4 (a5 + (1 : Int32))
def fJ10_signedHashCode (K : KE) (h : HS) (a0 : Int32) (a1 : Option Nat) (a2 : Int32) (a3 : Int32) : Option (Int32) :=
  fJ10_signedHashCode_8 K h FU a0 a1 (a2 + a3) a2
set_option maxHeartbeats 4000000 in
theorem wJ10_signedHashCode_8 {p : Program} {l : Launch} {e : Env} {s : State} {m : MethodId} {args : Array Value} {below : List Frame} {meth : Method} {c : Code} {A : Nat → Prop} {D : va_G} {ac : Nat → ClassId} {K : KE} {h : HS} (S : CallFix p m c cJ10_signedHashCode 6 s args lw_all RJ10) (hr : meth.sig.returnType = some .int) (hlk : meth.locks = false) (hnm : meth.name = "signedHashCode") (hG : GK A D ac K s) (hRM : RM K s (rmC 1 0 K h)) {x : Int32} : ∀ (n : Nat) (a0 : Int32) (a1 : Option Nat) (a4 : Int32) (a5 : Int32), fJ10_signedHashCode_8 K h n a0 a1 a4 a5 = some x → cGo p l e (rmC 1 0 K h) s m args below meth c A D ac K (MQ below (cQi A D ac K (h, x)) args s (K.2.2.1 - h.2.1) (K.2.2.2 - h.2.2) A) 6 8 [(0, .int a0), (1, va_rf a1), (4, .int a4), (5, .int a5)] [] h := by
  obtain ⟨hx, hb, hml, hown, hts⟩ := id S
  intro n
  induction n with
  | zero => intro a0 a1 a4 a5 z; cases z
  | succ n ih =>
    intro a0 a1 a4 a5 z H locs hH hS ls hl
    rw [fJ10_signedHashCode_8] at z
    refine lv_iload hx hb dJ10_signedHashCode_8 (lv_at hl 3 rfl) ?_
    refine lv_iload hx hb dJ10_signedHashCode_10 (lv_at hl 2 rfl) ?_
    refine lv_icmp_ge (tgt := 35) hx hb dJ10_signedHashCode_12 (by decide) (fun c1 => ?_) (fun c1 => ?_)
    · replace z := it c1 z
      refine lv_iload_n hx hb dJ10_signedHashCode_35 rfl (lv_at hl 0 rfl) ?_
      exact c_iret' S hr hlk rfl hH hS z dJ10_signedHashCode_36
    replace z := ie c1 z
    refine lv_bipush (v := (31 : Int32)) hx hb dJ10_signedHashCode_15 (by decide) ?_
    refine lv_iload_n hx hb dJ10_signedHashCode_17 rfl (lv_at hl 0 rfl) ?_
    refine lv_imul hx hb dJ10_signedHashCode_18 ?_
    refine c_aload_n hx hb dJ10_signedHashCode_19 rfl (lv_at hl 1 rfl) ?_
    refine lv_iload hx hb dJ10_signedHashCode_20 (lv_at hl 3 rfl) ?_
    replace z := ob z
    obtain ⟨v2, zv2, z⟩ := z
    refine c_bald S hG hH zv2 dJ10_signedHashCode_22 ?_
    refine lv_sipush (v := (255 : Int32)) hx hb dJ10_signedHashCode_23 (by decide) ?_
    refine lv_iand hx hb dJ10_signedHashCode_26 ?_
    refine lv_iadd hx hb dJ10_signedHashCode_27 ?_
    refine lv_istore_n (lv' := [(0, .int (((31 : Int32) * a0) + (v2 &&& (255 : Int32)))), (1, va_rf a1), (4, .int a4), (5, .int a5)]) hx hb dJ10_signedHashCode_28 rfl hl (by decide) rfl (fun ls hl => ?_)
    refine lv_iinc (v := (a5 + (1 : Int32))) (lv' := [(5, .int (a5 + (1 : Int32))), (0, .int (((31 : Int32) * a0) + (v2 &&& (255 : Int32)))), (1, va_rf a1), (4, .int a4)]) hx hb dJ10_signedHashCode_29 hl (k := 3) rfl rfl (by decide) rfl (fun ls hl => ?_)
    refine lv_goto (tgt := 8) hx hb dJ10_signedHashCode_32 (by decide) ?_
    exact ih (((31 : Int32) * a0) + (v2 &&& (255 : Int32))) a1 a4 (a5 + (1 : Int32)) z _ _ hH hS _ (lv_sub hl [1, 2, 3, 0] rfl)
set_option maxHeartbeats 4000000 in
theorem metJ10_signedHashCode {l : Launch} {A : Nat → Prop} {D : va_G} {ac : Nat → ClassId} {K : KE} {h : HS} {a0 : Int32} {a1 : Option Nat} {a2 : Int32} {a3 : Int32} {x : Int32} (z : fJ10_signedHashCode K h a0 a1 a2 a3 = some x) : Met l yJ10_signedHashCode (ws_ yJ10_signedHashCode cJ10_signedHashCode 6 (some .int)) (rmC 1 0 K h) (cP A D ac K h [.int a0, va_rf a1, .int a2, .int a3]) (cQi A D ac K (h, x)) (K.2.2.1 - h.2.1) (K.2.2.2 - h.2.2) A := by
  refine c_entry (plainFor_of_name (by decide)) (by simp [lg_sl, ct_r, ct_i, ct_l]) ?_
  intro p e s m below meth c S hr hlk hnm hG hRM hH hS ls hl
  replace hl : lv_has ls 6 [(0, .int a0), (1, va_rf a1), (2, .int a2), (3, .int a3)] := (by simpa [lv_args, ct_r, ct_i, ct_l] using hl)
  replace hnm : meth.name = "signedHashCode" := hnm
  replace S : CallFix p m c cJ10_signedHashCode 6 s _ lw_all RJ10 := S
  obtain ⟨hx, hb, hml, hown, hts⟩ := id S
  unfold fJ10_signedHashCode at z
  refine lv_iload_n hx hb dJ10_signedHashCode_0 rfl (lv_at hl 2 rfl) ?_
  refine lv_iload_n hx hb dJ10_signedHashCode_1 rfl (lv_at hl 3 rfl) ?_
  refine lv_iadd hx hb dJ10_signedHashCode_2 ?_
  refine lv_istore (lv' := [(4, .int (a2 + a3)), (0, .int a0), (1, va_rf a1), (2, .int a2), (3, .int a3)]) hx hb dJ10_signedHashCode_3 hl (by decide) rfl (fun ls hl => ?_)
  refine lv_iload_n hx hb dJ10_signedHashCode_5 rfl (lv_at hl 3 rfl) ?_
  refine lv_istore (lv' := [(5, .int a2), (4, .int (a2 + a3)), (0, .int a0), (1, va_rf a1), (2, .int a2), (3, .int a3)]) hx hb dJ10_signedHashCode_6 hl (by decide) rfl (fun ls hl => ?_)
  exact wJ10_signedHashCode_8 S hr hlk hnm hG hRM FU a0 a1 (a2 + a3) a2 z _ _ hH hS _ (lv_sub hl [2, 3, 1, 0] rfl)
/-! jdk/internal/util/ArraysSupport.vectorizedHashCode(Ljava/lang/Object;IIII)I -/
def fJ10_vectorizedHashCode (K : KE) (h : HS) (a0 : Option Nat) (a1 : Int32) (a2 : Int32) (a3 : Int32) (a4 : Int32) : Option (Int32) :=
  if a4 = 4 then
    (ckA K h a0 3).bind fun u1 =>
    (fJ10_signedHashCode K h a3 a0 a1 a2).bind fun x2 =>
    some x2
  else
  if a4 = 5 then
    none
  else
  if a4 = 6 then
    none
  else
  if a4 = 7 then
    none
  else
  if a4 = 8 then
    (ckA K h a0 3).bind fun u7 =>
    (fJ10_hashCode_2 K h a3 a0 a1 a2).bind fun x8 =>
    some x8
  else
  if a4 = 9 then
    none
  else
  if a4 = 10 then
    (ckA K h a0 0).bind fun u11 =>
    (fJ10_hashCode_4 K h a3 a0 a1 a2).bind fun x12 =>
    some x12
  else
  none
set_option maxHeartbeats 4000000 in
theorem metJ10_vectorizedHashCode {l : Launch} {A : Nat → Prop} {D : va_G} {ac : Nat → ClassId} {K : KE} {h : HS} {a0 : Option Nat} {a1 : Int32} {a2 : Int32} {a3 : Int32} {a4 : Int32} {x : Int32} (z : fJ10_vectorizedHashCode K h a0 a1 a2 a3 a4 = some x) : Met l yJ10_vectorizedHashCode (ws_ yJ10_vectorizedHashCode cJ10_vectorizedHashCode 5 (some .int)) (rmC 2 25 K h) (cP A D ac K h [va_rf a0, .int a1, .int a2, .int a3, .int a4]) (cQi A D ac K (h, x)) (K.2.2.1 - h.2.1) (K.2.2.2 - h.2.2) A := by
  refine c_entry (plainFor_of_name (by decide)) (by simp [lg_sl, ct_r, ct_i, ct_l]) ?_
  intro p e s m below meth c S hr hlk hnm hG hRM hH hS ls hl
  replace hl : lv_has ls 5 [(0, va_rf a0), (1, .int a1), (2, .int a2), (3, .int a3), (4, .int a4)] := (by simpa [lv_args, ct_r, ct_i, ct_l] using hl)
  replace hnm : meth.name = "vectorizedHashCode" := hnm
  replace S : CallFix p m c cJ10_vectorizedHashCode 5 s _ lw_all RJ10 := S
  obtain ⟨hx, hb, hml, hown, hts⟩ := id S
  unfold fJ10_vectorizedHashCode at z
  refine lv_iload hx hb dJ10_vectorizedHashCode_0 (lv_at hl 4 rfl) ?_
  by_cases c3 : a4 = 4
  · replace z := it c3 z
    refine lv_tableIn (off := 42) (tgt := 44) hx hb dJ10_vectorizedHashCode_2 (by rw [c3]; decide) (by rw [c3]; decide) (by rw [c3]; rfl) (by decide) ?_
    refine lv_iload_n hx hb dJ10_vectorizedHashCode_44 rfl (lv_at hl 3 rfl) ?_
    refine c_aload_n hx hb dJ10_vectorizedHashCode_45 rfl (lv_at hl 0 rfl) ?_
    replace z := ob z
    obtain ⟨u1, zu1, z⟩ := z
    refine c_castA S hG hH q705 3 (hG.1.2 3 _ rfl).2 zu1 dJ10_vectorizedHashCode_46 ?_
    refine lv_iload_n hx hb dJ10_vectorizedHashCode_49 rfl (lv_at hl 1 rfl) ?_
    refine lv_iload_n hx hb dJ10_vectorizedHashCode_50 rfl (lv_at hl 2 rfl) ?_
    replace z := ob z
    obtain ⟨x2, zx2, z⟩ := z
    refine c_calli hH hS hRM (fun _ _ f1 f2 => va_runS (As := [.int a3, va_rf a0, .int a1, .int a2]) (rest := []) S (metJ10_signedHashCode zx2) (va_cwS 4 hts (lw_S q706 q707 q184 q708) rfl rfl rfl (by decide +kernel) ⟨(Nat.le_of_ble_eq_true rfl), (Nat.le_of_ble_eq_true rfl)⟩) (c_pre hG hH hS) rfl rfl hl.1 rfl (lv_room (Nat.le_of_ble_eq_true rfl)) dJ10_vectorizedHashCode_51 ⟨f1, f2⟩) (fun H locs hH hS => ?_)
    refine lv_goto (tgt := 157) hx hb dJ10_vectorizedHashCode_54 (by decide) ?_
    exact c_iret' S hr hlk rfl hH hS z dJ10_vectorizedHashCode_157
  replace z := ie c3 z
  by_cases c4 : a4 = 5
  · replace z := it c4 z
    refine lv_tableIn (off := 55) (tgt := 57) hx hb dJ10_vectorizedHashCode_2 (by rw [c4]; decide) (by rw [c4]; decide) (by rw [c4]; rfl) (by decide) ?_
    refine c_aload_n hx hb dJ10_vectorizedHashCode_57 rfl (lv_at hl 0 rfl) ?_
    cases z
  replace z := ie c4 z
  by_cases c5 : a4 = 6
  · replace z := it c5 z
    refine lv_tableIn (off := 127) (tgt := 129) hx hb dJ10_vectorizedHashCode_2 (by rw [c5]; decide) (by rw [c5]; decide) (by rw [c5]; rfl) (by decide) ?_
    cases z
  replace z := ie c5 z
  by_cases c6 : a4 = 7
  · replace z := it c6 z
    refine lv_tableIn (off := 127) (tgt := 129) hx hb dJ10_vectorizedHashCode_2 (by rw [c6]; decide) (by rw [c6]; decide) (by rw [c6]; rfl) (by decide) ?_
    cases z
  replace z := ie c6 z
  by_cases c9 : a4 = 8
  · replace z := it c9 z
    refine lv_tableIn (off := 88) (tgt := 90) hx hb dJ10_vectorizedHashCode_2 (by rw [c9]; decide) (by rw [c9]; decide) (by rw [c9]; rfl) (by decide) ?_
    refine lv_iload_n hx hb dJ10_vectorizedHashCode_90 rfl (lv_at hl 3 rfl) ?_
    refine c_aload_n hx hb dJ10_vectorizedHashCode_91 rfl (lv_at hl 0 rfl) ?_
    replace z := ob z
    obtain ⟨u7, zu7, z⟩ := z
    refine c_castA S hG hH q705 3 (hG.1.2 3 _ rfl).2 zu7 dJ10_vectorizedHashCode_92 ?_
    refine lv_iload_n hx hb dJ10_vectorizedHashCode_95 rfl (lv_at hl 1 rfl) ?_
    refine lv_iload_n hx hb dJ10_vectorizedHashCode_96 rfl (lv_at hl 2 rfl) ?_
    replace z := ob z
    obtain ⟨x8, zx8, z⟩ := z
    refine c_calli hH hS hRM (fun _ _ f1 f2 => va_runS (As := [.int a3, va_rf a0, .int a1, .int a2]) (rest := []) S (metJ10_hashCode_2 zx8) (va_cwS 4 hts (lw_S q729 q730 q184 q731) rfl rfl rfl (by decide +kernel) ⟨(Nat.le_of_ble_eq_true rfl), (Nat.le_of_ble_eq_true rfl)⟩) (c_pre hG hH hS) rfl rfl hl.1 rfl (lv_room (Nat.le_of_ble_eq_true rfl)) dJ10_vectorizedHashCode_97 ⟨f1, f2⟩) (fun H locs hH hS => ?_)
    refine lv_goto (tgt := 157) hx hb dJ10_vectorizedHashCode_100 (by decide) ?_
    exact c_iret' S hr hlk rfl hH hS z dJ10_vectorizedHashCode_157
  replace z := ie c9 z
  by_cases c10 : a4 = 9
  · replace z := it c10 z
    refine lv_tableIn (off := 101) (tgt := 103) hx hb dJ10_vectorizedHashCode_2 (by rw [c10]; decide) (by rw [c10]; decide) (by rw [c10]; rfl) (by decide) ?_
    refine lv_iload_n hx hb dJ10_vectorizedHashCode_103 rfl (lv_at hl 3 rfl) ?_
    refine c_aload_n hx hb dJ10_vectorizedHashCode_104 rfl (lv_at hl 0 rfl) ?_
    cases z
  replace z := ie c10 z
  by_cases c13 : a4 = 10
  · replace z := it c13 z
    refine lv_tableIn (off := 114) (tgt := 116) hx hb dJ10_vectorizedHashCode_2 (by rw [c13]; decide) (by rw [c13]; decide) (by rw [c13]; rfl) (by decide) ?_
    refine lv_iload_n hx hb dJ10_vectorizedHashCode_116 rfl (lv_at hl 3 rfl) ?_
    refine c_aload_n hx hb dJ10_vectorizedHashCode_117 rfl (lv_at hl 0 rfl) ?_
    replace z := ob z
    obtain ⟨u11, zu11, z⟩ := z
    refine c_castA S hG hH q736 0 (hG.1.2 0 _ rfl).2 zu11 dJ10_vectorizedHashCode_118 ?_
    refine lv_iload_n hx hb dJ10_vectorizedHashCode_121 rfl (lv_at hl 1 rfl) ?_
    refine lv_iload_n hx hb dJ10_vectorizedHashCode_122 rfl (lv_at hl 2 rfl) ?_
    replace z := ob z
    obtain ⟨x12, zx12, z⟩ := z
    refine c_calli hH hS hRM (fun _ _ f1 f2 => va_runS (As := [.int a3, va_rf a0, .int a1, .int a2]) (rest := []) S (metJ10_hashCode_4 zx12) (va_cwS 4 hts (lw_S q737 q738 q184 q739) rfl rfl rfl (by decide +kernel) ⟨(Nat.le_of_ble_eq_true rfl), (Nat.le_of_ble_eq_true rfl)⟩) (c_pre hG hH hS) rfl rfl hl.1 rfl (lv_room (Nat.le_of_ble_eq_true rfl)) dJ10_vectorizedHashCode_123 ⟨f1, f2⟩) (fun H locs hH hS => ?_)
    refine lv_goto (tgt := 157) hx hb dJ10_vectorizedHashCode_126 (by decide) ?_
    exact c_iret' S hr hlk rfl hH hS z dJ10_vectorizedHashCode_157
  replace z := ie c13 z
  refine lv_tableOut (tgt := 129) hx hb dJ10_vectorizedHashCode_2 (sw_out4_7 c3 c4 c5 c6 c9 c10 c13) (by decide) ?_
  cases z
/-! java/lang/Math.max(II)I -/
def fJ12_max (K : KE) (h : HS) (a0 : Int32) (a1 : Int32) : Option (Int32) :=
  if a0 < a1 then
    some a1
  else
  some a0
set_option maxHeartbeats 4000000 in
theorem metJ12_max {l : Launch} {A : Nat → Prop} {D : va_G} {ac : Nat → ClassId} {K : KE} {h : HS} {a0 : Int32} {a1 : Int32} {x : Int32} (z : fJ12_max K h a0 a1 = some x) : Met l yJ12_max (ws_ yJ12_max cJ12_max 2 (some .int)) (rmC 1 0 K h) (cP A D ac K h [.int a0, .int a1]) (cQi A D ac K (h, x)) (K.2.2.1 - h.2.1) (K.2.2.2 - h.2.2) A := by
  refine c_entry (by decide +kernel) (Nat.le_of_ble_eq_true rfl) ?_
  intro p e s m below meth c S hr hlk hnm hG hRM hH hS ls hl
  replace hl : lv_has ls 2 [(0, .int a0), (1, .int a1)] := hl
  replace hnm : meth.name = "max" := hnm
  replace S : CallFix p m c cJ12_max 2 s _ lw_all RJ12 := S
  obtain ⟨hx, hb, hml, hown, hts⟩ := id S
  unfold fJ12_max at z
  refine lv_iload_n hx hb dJ12_max_0 rfl (lv_at hl 0 rfl) ?_
  refine lv_iload_n hx hb dJ12_max_1 rfl (lv_at hl 1 rfl) ?_
  refine lv_icmp_lt (tgt := 9) hx hb dJ12_max_2 (by decide) (fun c1 => ?_) (fun c1 => ?_)
  · replace z := it c1 z
    refine lv_iload_n hx hb dJ12_max_9 rfl (lv_at hl 1 rfl) ?_
    exact c_iret' S hr hlk rfl hH hS z dJ12_max_10
  replace z := ie c1 z
  refine lv_iload_n hx hb dJ12_max_5 rfl (lv_at hl 0 rfl) ?_
  refine lv_goto (tgt := 10) hx hb dJ12_max_6 (by decide) ?_
  exact c_iret' S hr hlk rfl hH hS z dJ12_max_10
/-! jdk/internal/util/ArraysSupport.newLength(III)I -/
def fJ10_newLength_21 (K : KE) (h : HS) (a0 : Int32) (a1 : Int32) : Option (Int32) :=
  none
def fJ10_newLength (K : KE) (h : HS) (a0 : Int32) (a1 : Int32) (a2 : Int32) : Option (Int32) :=
  (fJ12_max K h a1 a2).bind fun x1 =>
  if (a0 + x1) ≤ (0 : Int32) then
    fJ10_newLength_21 K h a0 a1
  else
  if (2147483639 : Int32) < (a0 + x1) then
    fJ10_newLength_21 K h a0 a1
  else
  some (a0 + x1)
set_option maxHeartbeats 4000000 in
theorem wJ10_newLength_21 {p : Program} {l : Launch} {e : Env} {s : State} {m : MethodId} {args : Array Value} {below : List Frame} {meth : Method} {c : Code} {A : Nat → Prop} {D : va_G} {ac : Nat → ClassId} {K : KE} {h : HS} (S : CallFix p m c cJ10_newLength 4 s args lw_all RJ10) (hr : meth.sig.returnType = some .int) (hlk : meth.locks = false) (hnm : meth.name = "newLength") (hG : GK A D ac K s) (hRM : RM K s (rmC 2 21 K h)) {x : Int32} : ∀ (a0 : Int32) (a1 : Int32), fJ10_newLength_21 K h a0 a1 = some x → cGo p l e (rmC 2 21 K h) s m args below meth c A D ac K (MQ below (cQi A D ac K (h, x)) args s (K.2.2.1 - h.2.1) (K.2.2.2 - h.2.2) A) 4 21 [(0, .int a0), (1, .int a1)] [] h := by
  obtain ⟨hx, hb, hml, hown, hts⟩ := id S
  intro a0 a1 z H locs hH hS ls hl
  unfold fJ10_newLength_21 at z
  refine lv_iload_n hx hb dJ10_newLength_21 rfl (lv_at hl 0 rfl) ?_
  refine lv_iload_n hx hb dJ10_newLength_22 rfl (lv_at hl 1 rfl) ?_
  cases z
set_option maxHeartbeats 4000000 in
theorem metJ10_newLength {l : Launch} {A : Nat → Prop} {D : va_G} {ac : Nat → ClassId} {K : KE} {h : HS} {a0 : Int32} {a1 : Int32} {a2 : Int32} {x : Int32} (z : fJ10_newLength K h a0 a1 a2 = some x) : Met l yJ10_newLength (ws_ yJ10_newLength cJ10_newLength 4 (some .int)) (rmC 2 21 K h) (cP A D ac K h [.int a0, .int a1, .int a2]) (cQi A D ac K (h, x)) (K.2.2.1 - h.2.1) (K.2.2.2 - h.2.2) A := by
  refine c_entry (plainFor_of_name (by decide)) (Nat.le_of_ble_eq_true rfl) ?_
  intro p e s m below meth c S hr hlk hnm hG hRM hH hS ls hl
  replace hl : lv_has ls 4 [(0, .int a0), (1, .int a1), (2, .int a2)] := hl
  replace hnm : meth.name = "newLength" := hnm
  replace S : CallFix p m c cJ10_newLength 4 s _ lw_all RJ10 := S
  obtain ⟨hx, hb, hml, hown, hts⟩ := id S
  unfold fJ10_newLength at z
  refine lv_iload_n hx hb dJ10_newLength_0 rfl (lv_at hl 0 rfl) ?_
  refine lv_iload_n hx hb dJ10_newLength_1 rfl (lv_at hl 1 rfl) ?_
  refine lv_iload_n hx hb dJ10_newLength_2 rfl (lv_at hl 2 rfl) ?_
  replace z := ob z
  obtain ⟨x1, zx1, z⟩ := z
  refine c_calli hH hS hRM (fun _ _ f1 f2 => va_runS (As := [.int a1, .int a2]) (rest := [.int a0]) S (metJ12_max zx1) (va_cwS 2 hts (lw_S q854 q855 q187 q856) rfl rfl rfl (by decide +kernel) ⟨(Nat.le_of_ble_eq_true rfl), (Nat.le_of_ble_eq_true rfl)⟩) (c_pre hG hH hS) rfl rfl hl.1 rfl (lv_room (Nat.le_of_ble_eq_true rfl)) dJ10_newLength_3 ⟨f1, f2⟩) (fun H locs hH hS => ?_)
  refine lv_iadd hx hb dJ10_newLength_6 ?_
  refine lv_istore_n (lv' := [(3, .int (a0 + x1)), (0, .int a0), (1, .int a1), (2, .int a2)]) hx hb dJ10_newLength_7 rfl hl (by decide) rfl (fun ls hl => ?_)
  refine lv_iconst (v := (0 : Int32)) hx hb dJ10_newLength_8 (by decide) ?_
  refine lv_iload_n hx hb dJ10_newLength_9 rfl (lv_at hl 0 rfl) ?_
  refine lv_icmp_ge (tgt := 21) hx hb dJ10_newLength_10 (by decide) (fun c2 => ?_) (fun c2 => ?_)
  · replace z := it c2 z
    exact wJ10_newLength_21 S hr hlk hnm hG hRM a0 a1 z _ _ hH hS _ (lv_sub hl [1, 2] rfl)
  replace z := ie c2 z
  refine lv_iload_n hx hb dJ10_newLength_13 rfl (lv_at hl 0 rfl) ?_
  refine lv_ldc hx hb hown (hts _ q857) dJ10_newLength_14 ?_
  refine lv_icmp_gt (tgt := 21) hx hb dJ10_newLength_16 (by decide) (fun c3 => ?_) (fun c3 => ?_)
  · replace z := it c3 z
    exact wJ10_newLength_21 S hr hlk hnm hG hRM a0 a1 z _ _ hH hS _ (lv_sub hl [1, 2] rfl)
  replace z := ie c3 z
  refine lv_iload_n hx hb dJ10_newLength_19 rfl (lv_at hl 0 rfl) ?_
  exact c_iret' S hr hlk rfl hH hS z dJ10_newLength_20
/-! jdk/internal/util/Preconditions.checkIndex(IILjava/util/function/BiFunction;)I -/
def fJ8_checkIndex_9 (K : KE) (h : HS) (a0 : Int32) (a1 : Int32) (a2 : Option Nat) : Option (Int32) :=
  none
def fJ8_checkIndex (K : KE) (h : HS) (a0 : Int32) (a1 : Int32) (a2 : Option Nat) : Option (Int32) :=
  if a0 < 0 then
    fJ8_checkIndex_9 K h a0 a1 a2
  else
  if a0 < a1 then
    some a0
  else
  fJ8_checkIndex_9 K h a0 a1 a2
set_option maxHeartbeats 4000000 in
theorem wJ8_checkIndex_9 {p : Program} {l : Launch} {e : Env} {s : State} {m : MethodId} {args : Array Value} {below : List Frame} {meth : Method} {c : Code} {A : Nat → Prop} {D : va_G} {ac : Nat → ClassId} {K : KE} {h : HS} (S : CallFix p m c cJ8_checkIndex 3 s args lw_all RJ8) (hr : meth.sig.returnType = some .int) (hlk : meth.locks = false) (hnm : meth.name = "checkIndex") (hG : GK A D ac K s) (hRM : RM K s (rmC 1 0 K h)) {x : Int32} : ∀ (a0 : Int32) (a1 : Int32) (a2 : Option Nat), fJ8_checkIndex_9 K h a0 a1 a2 = some x → cGo p l e (rmC 1 0 K h) s m args below meth c A D ac K (MQ below (cQi A D ac K (h, x)) args s (K.2.2.1 - h.2.1) (K.2.2.2 - h.2.2) A) 3 9 [(0, .int a0), (1, .int a1), (2, va_rf a2)] [] h := by
  obtain ⟨hx, hb, hml, hown, hts⟩ := id S
  intro a0 a1 a2 z H locs hH hS ls hl
  unfold fJ8_checkIndex_9 at z
  refine c_aload_n hx hb dJ8_checkIndex_9 rfl (lv_at hl 2 rfl) ?_
  refine lv_iload_n hx hb dJ8_checkIndex_10 rfl (lv_at hl 0 rfl) ?_
  refine lv_iload_n hx hb dJ8_checkIndex_11 rfl (lv_at hl 1 rfl) ?_
  cases z
set_option maxHeartbeats 4000000 in
theorem metJ8_checkIndex {l : Launch} {A : Nat → Prop} {D : va_G} {ac : Nat → ClassId} {K : KE} {h : HS} {a0 : Int32} {a1 : Int32} {a2 : Option Nat} {x : Int32} (z : fJ8_checkIndex K h a0 a1 a2 = some x) : Met l yJ8_checkIndex (ws_ yJ8_checkIndex cJ8_checkIndex 3 (some .int)) (rmC 1 0 K h) (cP A D ac K h [.int a0, .int a1, va_rf a2]) (cQi A D ac K (h, x)) (K.2.2.1 - h.2.1) (K.2.2.2 - h.2.2) A := by
  refine c_entry (plainFor_of_name (by decide)) (by simp [lg_sl, ct_r, ct_i, ct_l]) ?_
  intro p e s m below meth c S hr hlk hnm hG hRM hH hS ls hl
  replace hl : lv_has ls 3 [(0, .int a0), (1, .int a1), (2, va_rf a2)] := (by simpa [lv_args, ct_r, ct_i, ct_l] using hl)
  replace hnm : meth.name = "checkIndex" := hnm
  replace S : CallFix p m c cJ8_checkIndex 3 s _ lw_all RJ8 := S
  obtain ⟨hx, hb, hml, hown, hts⟩ := id S
  unfold fJ8_checkIndex at z
  refine lv_iload_n hx hb dJ8_checkIndex_0 rfl (lv_at hl 0 rfl) ?_
  refine lv_if_lt (tgt := 9) hx hb dJ8_checkIndex_1 (by decide) (fun c1 => ?_) (fun c1 => ?_)
  · replace z := it c1 z
    exact wJ8_checkIndex_9 S hr hlk hnm hG hRM a0 a1 a2 z _ _ hH hS _ (lv_sub hl [0, 1, 2] rfl)
  replace z := ie c1 z
  refine lv_iload_n hx hb dJ8_checkIndex_4 rfl (lv_at hl 0 rfl) ?_
  refine lv_iload_n hx hb dJ8_checkIndex_5 rfl (lv_at hl 1 rfl) ?_
  refine lv_icmp_lt (tgt := 16) hx hb dJ8_checkIndex_6 (by decide) (fun c2 => ?_) (fun c2 => ?_)
  rotate_left 1
  · replace z := ie c2 z
    exact wJ8_checkIndex_9 S hr hlk hnm hG hRM a0 a1 a2 z _ _ hH hS _ (lv_sub hl [0, 1, 2] rfl)
  replace z := it c2 z
  refine lv_iload_n hx hb dJ8_checkIndex_16 rfl (lv_at hl 0 rfl) ?_
  exact c_iret' S hr hlk rfl hH hS z dJ8_checkIndex_17
/-! java/util/Objects.checkIndex(II)I -/
def fJ11_checkIndex (K : KE) (h : HS) (a0 : Int32) (a1 : Int32) : Option (Int32) :=
  (fJ8_checkIndex K h a0 a1 none).bind fun x1 =>
  some x1
set_option maxHeartbeats 4000000 in
theorem metJ11_checkIndex {l : Launch} {A : Nat → Prop} {D : va_G} {ac : Nat → ClassId} {K : KE} {h : HS} {a0 : Int32} {a1 : Int32} {x : Int32} (z : fJ11_checkIndex K h a0 a1 = some x) : Met l yJ11_checkIndex (ws_ yJ11_checkIndex cJ11_checkIndex 2 (some .int)) (rmC 2 22 K h) (cP A D ac K h [.int a0, .int a1]) (cQi A D ac K (h, x)) (K.2.2.1 - h.2.1) (K.2.2.2 - h.2.2) A := by
  refine c_entry (plainFor_of_name (by decide)) (Nat.le_of_ble_eq_true rfl) ?_
  intro p e s m below meth c S hr hlk hnm hG hRM hH hS ls hl
  replace hl : lv_has ls 2 [(0, .int a0), (1, .int a1)] := hl
  replace hnm : meth.name = "checkIndex" := hnm
  replace S : CallFix p m c cJ11_checkIndex 2 s _ lw_all RJ11 := S
  obtain ⟨hx, hb, hml, hown, hts⟩ := id S
  unfold fJ11_checkIndex at z
  refine lv_iload_n hx hb dJ11_checkIndex_0 rfl (lv_at hl 0 rfl) ?_
  refine lv_iload_n hx hb dJ11_checkIndex_1 rfl (lv_at hl 1 rfl) ?_
  refine c_null hx hb dJ11_checkIndex_2 ?_
  replace z := ob z
  obtain ⟨x1, zx1, z⟩ := z
  refine c_calli hH hS hRM (fun _ _ f1 f2 => va_runS (As := [.int a0, .int a1, va_rf none]) (rest := []) S (metJ8_checkIndex zx1) (va_cwS 3 hts (lw_S q811 q812 q182 q813) rfl rfl rfl (by decide +kernel) ⟨(Nat.le_of_ble_eq_true rfl), (Nat.le_of_ble_eq_true rfl)⟩) (c_pre hG hH hS) rfl rfl hl.1 rfl (lv_room (Nat.le_of_ble_eq_true rfl)) dJ11_checkIndex_3 ⟨f1, f2⟩) (fun H locs hH hS => ?_)
  exact c_iret' S hr hlk rfl hH hS z dJ11_checkIndex_6
/-! java/lang/Math.min(II)I -/
def fJ12_min (K : KE) (h : HS) (a0 : Int32) (a1 : Int32) : Option (Int32) :=
  if a1 < a0 then
    some a1
  else
  some a0
set_option maxHeartbeats 4000000 in
theorem metJ12_min {l : Launch} {A : Nat → Prop} {D : va_G} {ac : Nat → ClassId} {K : KE} {h : HS} {a0 : Int32} {a1 : Int32} {x : Int32} (z : fJ12_min K h a0 a1 = some x) : Met l yJ12_min (ws_ yJ12_min cJ12_min 2 (some .int)) (rmC 1 0 K h) (cP A D ac K h [.int a0, .int a1]) (cQi A D ac K (h, x)) (K.2.2.1 - h.2.1) (K.2.2.2 - h.2.2) A := by
  refine c_entry (by decide +kernel) (Nat.le_of_ble_eq_true rfl) ?_
  intro p e s m below meth c S hr hlk hnm hG hRM hH hS ls hl
  replace hl : lv_has ls 2 [(0, .int a0), (1, .int a1)] := hl
  replace hnm : meth.name = "min" := hnm
  replace S : CallFix p m c cJ12_min 2 s _ lw_all RJ12 := S
  obtain ⟨hx, hb, hml, hown, hts⟩ := id S
  unfold fJ12_min at z
  refine lv_iload_n hx hb dJ12_min_0 rfl (lv_at hl 0 rfl) ?_
  refine lv_iload_n hx hb dJ12_min_1 rfl (lv_at hl 1 rfl) ?_
  refine lv_icmp_gt (tgt := 9) hx hb dJ12_min_2 (by decide) (fun c1 => ?_) (fun c1 => ?_)
  · replace z := it c1 z
    refine lv_iload_n hx hb dJ12_min_9 rfl (lv_at hl 1 rfl) ?_
    exact c_iret' S hr hlk rfl hH hS z dJ12_min_10
  replace z := ie c1 z
  refine lv_iload_n hx hb dJ12_min_5 rfl (lv_at hl 0 rfl) ?_
  refine lv_goto (tgt := 10) hx hb dJ12_min_6 (by decide) ?_
  exact c_iret' S hr hlk rfl hH hS z dJ12_min_10
/-! java/lang/Math.min(JJ)J -/
def fJ12_min_2 (K : KE) (h : HS) (a0 : Int64) (a2 : Int64) : Option (Int64) :=
  if a2 < a0 then
    some a2
  else
  some a0
set_option maxHeartbeats 4000000 in
theorem metJ12_min_2 {l : Launch} {A : Nat → Prop} {D : va_G} {ac : Nat → ClassId} {K : KE} {h : HS} {a0 : Int64} {a2 : Int64} {x : Int64} (z : fJ12_min_2 K h a0 a2 = some x) : Met l yJ12_min_2 (ws_ yJ12_min_2 cJ12_min_2 4 (some .long)) (rmC 1 0 K h) (cP A D ac K h [.long a0, .long a2]) (cQl A D ac K (h, x)) (K.2.2.1 - h.2.1) (K.2.2.2 - h.2.2) A := by
  refine c_entry (by decide +kernel) (Nat.le_of_ble_eq_true rfl) ?_
  intro p e s m below meth c S hr hlk hnm hG hRM hH hS ls hl
  replace hl : lv_has ls 4 [(0, .long a0), (2, .long a2)] := hl
  replace hnm : meth.name = "min" := hnm
  replace S : CallFix p m c cJ12_min_2 4 s _ lw_all RJ12 := S
  obtain ⟨hx, hb, hml, hown, hts⟩ := id S
  unfold fJ12_min_2 at z
  refine lv_lload_n hx hb dJ12_min_2_0 rfl (lv_at hl 0 rfl) ?_
  refine lv_lload_n hx hb dJ12_min_2_1 rfl (lv_at hl 1 rfl) ?_
  refine W.lcmp hx hb dJ12_min_2_2 ?_
  refine lv_if_gt (tgt := 10) hx hb dJ12_min_2_3 (by decide) (fun c1 => ?_) (fun c1 => ?_)
  · replace z := it ((lg_cmp_gt _ _).mp c1) z
    refine lv_lload_n hx hb dJ12_min_2_10 rfl (lv_at hl 1 rfl) ?_
    exact c_lret' S hr hlk hH hS z dJ12_min_2_11
  replace z := ie (fun q => c1 ((lg_cmp_gt _ _).mpr q)) z
  refine lv_lload_n hx hb dJ12_min_2_6 rfl (lv_at hl 0 rfl) ?_
  refine lv_goto (tgt := 11) hx hb dJ12_min_2_7 (by decide) ?_
  exact c_lret' S hr hlk hH hS z dJ12_min_2_11
/-! java/lang/Math.max(JJ)J -/
def fJ12_max_2 (K : KE) (h : HS) (a0 : Int64) (a2 : Int64) : Option (Int64) :=
  if a0 < a2 then
    some a2
  else
  some a0
set_option maxHeartbeats 4000000 in
theorem metJ12_max_2 {l : Launch} {A : Nat → Prop} {D : va_G} {ac : Nat → ClassId} {K : KE} {h : HS} {a0 : Int64} {a2 : Int64} {x : Int64} (z : fJ12_max_2 K h a0 a2 = some x) : Met l yJ12_max_2 (ws_ yJ12_max_2 cJ12_max_2 4 (some .long)) (rmC 1 0 K h) (cP A D ac K h [.long a0, .long a2]) (cQl A D ac K (h, x)) (K.2.2.1 - h.2.1) (K.2.2.2 - h.2.2) A := by
  refine c_entry (by decide +kernel) (Nat.le_of_ble_eq_true rfl) ?_
  intro p e s m below meth c S hr hlk hnm hG hRM hH hS ls hl
  replace hl : lv_has ls 4 [(0, .long a0), (2, .long a2)] := hl
  replace hnm : meth.name = "max" := hnm
  replace S : CallFix p m c cJ12_max_2 4 s _ lw_all RJ12 := S
  obtain ⟨hx, hb, hml, hown, hts⟩ := id S
  unfold fJ12_max_2 at z
  refine lv_lload_n hx hb dJ12_max_2_0 rfl (lv_at hl 0 rfl) ?_
  refine lv_lload_n hx hb dJ12_max_2_1 rfl (lv_at hl 1 rfl) ?_
  refine W.lcmp hx hb dJ12_max_2_2 ?_
  refine lv_if_lt (tgt := 10) hx hb dJ12_max_2_3 (by decide) (fun c1 => ?_) (fun c1 => ?_)
  · replace z := it ((lg_cmp_lt _ _).mp c1) z
    refine lv_lload_n hx hb dJ12_max_2_10 rfl (lv_at hl 1 rfl) ?_
    exact c_lret' S hr hlk hH hS z dJ12_max_2_11
  replace z := ie (fun q => c1 ((lg_cmp_lt _ _).mpr q)) z
  refine lv_lload_n hx hb dJ12_max_2_6 rfl (lv_at hl 0 rfl) ?_
  refine lv_goto (tgt := 11) hx hb dJ12_max_2_7 (by decide) ?_
  exact c_lret' S hr hlk hH hS z dJ12_max_2_11
/-! java/lang/Math.floorDiv(JJ)J -/
def fJ12_floorDiv (K : KE) (h : HS) (a0 : Int64) (a2 : Int64) : Option (Int64) :=
  (nzl a2).bind fun d1 =>
  if (0 : Int64) ≤ (a0 ^^^ a2) then
    some (a0 / a2)
  else
  if ((a0 / a2) * a2) = a0 then
    some (a0 / a2)
  else
  some ((a0 / a2) - (1 : Int64))
set_option maxHeartbeats 4000000 in
theorem metJ12_floorDiv {l : Launch} {A : Nat → Prop} {D : va_G} {ac : Nat → ClassId} {K : KE} {h : HS} {a0 : Int64} {a2 : Int64} {x : Int64} (z : fJ12_floorDiv K h a0 a2 = some x) : Met l yJ12_floorDiv (ws_ yJ12_floorDiv cJ12_floorDiv 6 (some .long)) (rmC 1 0 K h) (cP A D ac K h [.long a0, .long a2]) (cQl A D ac K (h, x)) (K.2.2.1 - h.2.1) (K.2.2.2 - h.2.2) A := by
  refine c_entry (by decide +kernel) (Nat.le_of_ble_eq_true rfl) ?_
  intro p e s m below meth c S hr hlk hnm hG hRM hH hS ls hl
  replace hl : lv_has ls 6 [(0, .long a0), (2, .long a2)] := hl
  replace hnm : meth.name = "floorDiv" := hnm
  replace S : CallFix p m c cJ12_floorDiv 6 s _ lw_all RJ12 := S
  obtain ⟨hx, hb, hml, hown, hts⟩ := id S
  unfold fJ12_floorDiv at z
  refine lv_lload_n hx hb dJ12_floorDiv_0 rfl (lv_at hl 0 rfl) ?_
  refine lv_lload_n hx hb dJ12_floorDiv_1 rfl (lv_at hl 1 rfl) ?_
  replace z := ob z
  obtain ⟨d1, zd1, z⟩ := z
  obtain ⟨zd1, -⟩ := nzl_e zd1
  refine lv_ldiv hx hb dJ12_floorDiv_2 zd1 ?_
  refine lv_lstore (lv' := [(4, .long (a0 / a2)), (0, .long a0), (2, .long a2)]) hx hb dJ12_floorDiv_3 hl (by decide) rfl (fun ls hl => ?_)
  refine lv_lload_n hx hb dJ12_floorDiv_5 rfl (lv_at hl 1 rfl) ?_
  refine lv_lload_n hx hb dJ12_floorDiv_6 rfl (lv_at hl 2 rfl) ?_
  refine lv_lxor hx hb dJ12_floorDiv_7 ?_
  refine lv_lconst (v := (0 : Int64)) hx hb dJ12_floorDiv_8 (by decide) ?_
  refine W.lcmp hx hb dJ12_floorDiv_9 ?_
  refine lv_if_ge (tgt := 27) hx hb dJ12_floorDiv_10 (by decide) (fun c2 => ?_) (fun c2 => ?_)
  · replace z := it ((lg_cmp_ge _ _).mp c2) z
    refine lv_lload hx hb dJ12_floorDiv_27 (lv_at hl 0 rfl) ?_
    exact c_lret' S hr hlk hH hS z dJ12_floorDiv_29
  replace z := ie (fun q => c2 ((lg_cmp_ge _ _).mpr q)) z
  refine lv_lload hx hb dJ12_floorDiv_13 (lv_at hl 0 rfl) ?_
  refine lv_lload_n hx hb dJ12_floorDiv_15 rfl (lv_at hl 2 rfl) ?_
  refine lv_lmul hx hb dJ12_floorDiv_16 ?_
  refine lv_lload_n hx hb dJ12_floorDiv_17 rfl (lv_at hl 1 rfl) ?_
  refine W.lcmp hx hb dJ12_floorDiv_18 ?_
  refine lv_if_eq (tgt := 27) hx hb dJ12_floorDiv_19 (by decide) (fun c3 => ?_) (fun c3 => ?_)
  · replace z := it ((lg_cmp_eq _ _).mp c3) z
    refine lv_lload hx hb dJ12_floorDiv_27 (lv_at hl 0 rfl) ?_
    exact c_lret' S hr hlk hH hS z dJ12_floorDiv_29
  replace z := ie (fun q => c3 ((lg_cmp_eq _ _).mpr q)) z
  refine lv_lload hx hb dJ12_floorDiv_22 (lv_at hl 0 rfl) ?_
  refine lv_lconst (v := (1 : Int64)) hx hb dJ12_floorDiv_24 (by decide) ?_
  refine lv_lsub hx hb dJ12_floorDiv_25 ?_
  exact c_lret' S hr hlk hH hS z dJ12_floorDiv_26
/-! java/util/Arrays.copyOf([Ljava/lang/Object;ILjava/lang/Class;)[Ljava/lang/Object; -/
def fJ13_copyOf_2_24 (K : KE) (h : HS) (a0 : Option Nat) (a1 : Int32) (t0 : Option Nat) : Option (HS × Option Nat) :=
  (cN K h a0 5).bind fun v1 =>
  (fJ12_min K h v1 a1).bind fun x2 =>
  (acR K h a0 (0 : Int32) t0 (0 : Int32) x2).bind fun h3 =>
  some (h3, t0)
def fJ13_copyOf_2 (K : KE) (h : HS) (a0 : Option Nat) (a1 : Int32) (a2 : Option Nat) : Option (HS × Option Nat) :=
  if a2 = (K.2.1 7) then
    (nA K h 5 (.inr (.inr (.inr (.inr (fun _ => none))))) a1).bind fun h2 =>
    fJ13_copyOf_2_24 K h2 a0 a1 (some h.2.1)
  else
  none
set_option maxHeartbeats 4000000 in
theorem wJ13_copyOf_2_24 {p : Program} {l : Launch} {e : Env} {s : State} {m : MethodId} {args : Array Value} {below : List Frame} {meth : Method} {c : Code} {A : Nat → Prop} {D : va_G} {ac : Nat → ClassId} {K : KE} {h0 : HS} (S : CallFix p m c cJ13_copyOf_2 4 s args lw_all RJ13) (hr : meth.sig.returnType = some (.array (.object "java/lang/Object"))) (hlk : meth.locks = false) (hnm : meth.name = "copyOf") (hG : GK A D ac K s) (hRM : RM K s (rmC 2 60 K h0)) {x : HS × Option Nat} : ∀ (h : HS) (a0 : Option Nat) (a1 : Int32) (t0 : Option Nat), fJ13_copyOf_2_24 K h a0 a1 t0 = some x → cGo p l e (rmC 2 60 K h0) s m args below meth c A D ac K (MQ below (cQq A D ac K x) args s (K.2.2.1 - h0.2.1) (K.2.2.2 - h0.2.2) A) 4 24 [(0, va_rf a0), (1, .int a1)] [va_rf t0] h := by
  obtain ⟨hx, hb, hml, hown, hts⟩ := id S
  intro h a0 a1 t0 z H locs hH hS ls hl
  unfold fJ13_copyOf_2_24 at z
  refine c_astore_n (lv' := [(3, va_rf t0), (0, va_rf a0), (1, .int a1)]) hx hb dJ13_copyOf_2_24 rfl hl (by decide) rfl (fun ls hl => ?_)
  refine c_aload_n hx hb dJ13_copyOf_2_25 rfl (lv_at hl 1 rfl) ?_
  refine lv_iconst (v := (0 : Int32)) hx hb dJ13_copyOf_2_26 (by decide) ?_
  refine c_aload_n hx hb dJ13_copyOf_2_27 rfl (lv_at hl 0 rfl) ?_
  refine lv_iconst (v := (0 : Int32)) hx hb dJ13_copyOf_2_28 (by decide) ?_
  refine c_aload_n hx hb dJ13_copyOf_2_29 rfl (lv_at hl 1 rfl) ?_
  replace z := ob z
  obtain ⟨v1, zv1, z⟩ := z
  refine c_alen S hG hH 5 rfl zv1 dJ13_copyOf_2_30 ?_
  refine lv_iload_n hx hb dJ13_copyOf_2_31 rfl (lv_at hl 2 rfl) ?_
  replace z := ob z
  obtain ⟨x2, zx2, z⟩ := z
  refine c_calli hH hS hRM (fun _ _ f1 f2 => va_runS (As := [.int v1, .int a1]) (rest := [.int (0 : Int32), va_rf t0, .int (0 : Int32), va_rf a0]) S (metJ12_min zx2) (va_cwS 2 hts (lw_S q897 q898 q187 q899) rfl rfl rfl (by decide +kernel) ⟨(Nat.le_of_ble_eq_true rfl), (Nat.le_of_ble_eq_true rfl)⟩) (c_pre hG hH hS) rfl rfl hl.1 rfl (lv_room (by simp [ct_r, ct_i, ct_l])) dJ13_copyOf_2_32 ⟨f1, f2⟩) (fun H locs hH hS => ?_)
  replace z := ob z
  obtain ⟨h3, zh3, z⟩ := z
  refine c_copyR S hG hH hS hl.1 q900 q902 q901 q189 zh3 (Nat.le_of_ble_eq_true rfl) (Nat.le_of_ble_eq_true rfl) dJ13_copyOf_2_35 (fun H locs hH hS => ?_)
  refine c_aload_n hx hb dJ13_copyOf_2_38 rfl (lv_at hl 0 rfl) ?_
  exact c_aret S hr (Or.inr ⟨_, rfl⟩) hlk hH hS z dJ13_copyOf_2_39
set_option maxHeartbeats 4000000 in
theorem metJ13_copyOf_2 {l : Launch} {A : Nat → Prop} {D : va_G} {ac : Nat → ClassId} {K : KE} {h : HS} {a0 : Option Nat} {a1 : Int32} {a2 : Option Nat} {x : HS × Option Nat} (z : fJ13_copyOf_2 K h a0 a1 a2 = some x) : Met l yJ13_copyOf_2 (ws_ yJ13_copyOf_2 cJ13_copyOf_2 4 (some (.array (.object "java/lang/Object")))) (rmC 2 60 K h) (cP A D ac K h [va_rf a0, .int a1, va_rf a2]) (cQq A D ac K x) (K.2.2.1 - h.2.1) (K.2.2.2 - h.2.2) A := by
  refine c_entry (plainFor_of_name (by decide)) (by simp [lg_sl, ct_r, ct_i, ct_l]) ?_
  intro p e s m below meth c S hr hlk hnm hG hRM hH hS ls hl
  replace hl : lv_has ls 4 [(0, va_rf a0), (1, .int a1), (2, va_rf a2)] := (by simpa [lv_args, ct_r, ct_i, ct_l] using hl)
  replace hnm : meth.name = "copyOf" := hnm
  replace S : CallFix p m c cJ13_copyOf_2 4 s _ lw_all RJ13 := S
  obtain ⟨hx, hb, hml, hown, hts⟩ := id S
  unfold fJ13_copyOf_2 at z
  refine c_aload_n hx hb dJ13_copyOf_2_0 rfl (lv_at hl 2 rfl) ?_
  refine c_ldcM S hG (hts _ q895) dJ13_copyOf_2_1 ?_
  refine lv_acmp_ne (tgt := 13) hx hb dJ13_copyOf_2_3 (by decide) (fun c1 => ?_) (fun c1 => ?_)
  · replace z := ie c1 z
    refine c_aload_n hx hb dJ13_copyOf_2_13 rfl (lv_at hl 2 rfl) ?_
    cases z
  replace z := it c1 z
  refine lv_iload_n hx hb dJ13_copyOf_2_6 rfl (lv_at hl 1 rfl) ?_
  replace z := ob z
  obtain ⟨h2, zh2, z⟩ := z
  refine c_anew S hG hH hS hRM 5 rfl q896 q234 zh2 dJ13_copyOf_2_7 (fun H locs hH hS => ?_)
  refine lv_goto (tgt := 24) hx hb dJ13_copyOf_2_10 (by decide) ?_
  exact wJ13_copyOf_2_24 S hr hlk hnm hG hRM h2 a0 a1 (some h.2.1) z _ _ hH hS _ (lv_sub hl [0, 1] rfl)
/-! java/util/Arrays.copyOf([Ljava/lang/Object;I)[Ljava/lang/Object; -/
def fJ13_copyOf (K : KE) (h : HS) (a0 : Option Nat) (a1 : Int32) : Option (HS × Option Nat) :=
  (ckA K h a0 5).bind fun u1 =>
  (fJ13_copyOf_2 K h a0 a1 (K.2.1 7)).bind fun x2 =>
  some (x2.1, x2.2)
set_option maxHeartbeats 4000000 in
theorem metJ13_copyOf {l : Launch} {A : Nat → Prop} {D : va_G} {ac : Nat → ClassId} {K : KE} {h : HS} {a0 : Option Nat} {a1 : Int32} {x : HS × Option Nat} (z : fJ13_copyOf K h a0 a1 = some x) : Met l yJ13_copyOf (ws_ yJ13_copyOf cJ13_copyOf 2 (some (.array (.object "java/lang/Object")))) (rmC 3 83 K h) (cP A D ac K h [va_rf a0, .int a1]) (cQq A D ac K x) (K.2.2.1 - h.2.1) (K.2.2.2 - h.2.2) A := by
  refine c_entry (plainFor_of_name (by decide)) (by simp [lg_sl, ct_r, ct_i, ct_l]) ?_
  intro p e s m below meth c S hr hlk hnm hG hRM hH hS ls hl
  replace hl : lv_has ls 2 [(0, va_rf a0), (1, .int a1)] := (by simpa [lv_args, ct_r, ct_i, ct_l] using hl)
  replace hnm : meth.name = "copyOf" := hnm
  replace S : CallFix p m c cJ13_copyOf 2 s _ lw_all RJ13 := S
  obtain ⟨hx, hb, hml, hown, hts⟩ := id S
  unfold fJ13_copyOf at z
  refine c_aload_n hx hb dJ13_copyOf_0 rfl (lv_at hl 0 rfl) ?_
  refine lv_iload_n hx hb dJ13_copyOf_1 rfl (lv_at hl 1 rfl) ?_
  refine c_aload_n hx hb dJ13_copyOf_2 rfl (lv_at hl 0 rfl) ?_
  replace z := ob z
  obtain ⟨u1, zu1, z⟩ := z
  refine c_getC S hG hH hl.1 q864 q2673 q2672 q865 q891 zu1 (Nat.le_of_ble_eq_true rfl) (by simp [ct_r, ct_i, ct_l]) dJ13_copyOf_3 ?_
  replace z := ob z
  obtain ⟨x2, zx2, z⟩ := z
  refine c_callq hH hS hRM (fun _ _ f1 f2 => va_runS (As := [va_rf a0, .int a1, va_rf (K.2.1 7)]) (rest := []) S (metJ13_copyOf_2 zx2) (va_cwS 3 hts (lw_S q892 q893 q188 q894) rfl rfl rfl (by decide +kernel) ⟨(Nat.le_of_ble_eq_true rfl), (Nat.le_of_ble_eq_true rfl)⟩) (c_pre hG hH hS) rfl rfl hl.1 rfl (lv_room (Nat.le_of_ble_eq_true rfl)) dJ13_copyOf_6 ⟨f1, f2⟩) (fun H locs hH hS => ?_)
  exact c_aret S hr (Or.inr ⟨_, rfl⟩) hlk hH hS z dJ13_copyOf_9
/-! java/util/Arrays.copyOf([BI)[B -/
def fJ13_copyOf_3 (K : KE) (h : HS) (a0 : Option Nat) (a1 : Int32) : Option (HS × Option Nat) :=
  (cN K h a0 3).bind fun v1 =>
  if a1 = v1 then
    none
  else
  (nA K h 3 (.inl (fun _ => 0)) a1).bind fun h3 =>
  (cN K h3 a0 3).bind fun v4 =>
  (fJ12_min K h3 v4 a1).bind fun x5 =>
  (acB K h3 a0 (0 : Int32) (some h.2.1) (0 : Int32) x5).bind fun h6 =>
  some (h6, (some h.2.1))
set_option maxHeartbeats 4000000 in
theorem metJ13_copyOf_3 {l : Launch} {A : Nat → Prop} {D : va_G} {ac : Nat → ClassId} {K : KE} {h : HS} {a0 : Option Nat} {a1 : Int32} {x : HS × Option Nat} (z : fJ13_copyOf_3 K h a0 a1 = some x) : Met l yJ13_copyOf_3 (ws_ yJ13_copyOf_3 cJ13_copyOf_3 3 (some (.array .byte))) (rmC 2 60 K h) (cP A D ac K h [va_rf a0, .int a1]) (cQq A D ac K x) (K.2.2.1 - h.2.1) (K.2.2.2 - h.2.2) A := by
  refine c_entry (plainFor_of_name (by decide)) (by simp [lg_sl, ct_r, ct_i, ct_l]) ?_
  intro p e s m below meth c S hr hlk hnm hG hRM hH hS ls hl
  replace hl : lv_has ls 3 [(0, va_rf a0), (1, .int a1)] := (by simpa [lv_args, ct_r, ct_i, ct_l] using hl)
  replace hnm : meth.name = "copyOf" := hnm
  replace S : CallFix p m c cJ13_copyOf_3 3 s _ lw_all RJ13 := S
  obtain ⟨hx, hb, hml, hown, hts⟩ := id S
  unfold fJ13_copyOf_3 at z
  refine lv_iload_n hx hb dJ13_copyOf_3_0 rfl (lv_at hl 1 rfl) ?_
  refine c_aload_n hx hb dJ13_copyOf_3_1 rfl (lv_at hl 0 rfl) ?_
  replace z := ob z
  obtain ⟨v1, zv1, z⟩ := z
  refine c_alen S hG hH 3 rfl zv1 dJ13_copyOf_3_2 ?_
  refine lv_icmp_ne (tgt := 14) hx hb dJ13_copyOf_3_3 (by decide) (fun c2 => ?_) (fun c2 => ?_)
  rotate_left 1
  · replace z := it c2 z
    refine c_aload_n hx hb dJ13_copyOf_3_6 rfl (lv_at hl 0 rfl) ?_
    cases z
  replace z := ie c2 z
  refine lv_iload_n hx hb dJ13_copyOf_3_14 rfl (lv_at hl 1 rfl) ?_
  replace z := ob z
  obtain ⟨h3, zh3, z⟩ := z
  refine c_newa S hG hH hS hRM 3 (atype := .byte) (ty := .byte) rfl rfl (fun y => y) (by decide) q381 (fun _ => rfl) zh3 dJ13_copyOf_3_15 (fun H locs hH hS => ?_)
  refine c_astore_n (lv' := [(2, va_rf (some h.2.1)), (0, va_rf a0), (1, .int a1)]) hx hb dJ13_copyOf_3_17 rfl hl (by decide) rfl (fun ls hl => ?_)
  refine c_aload_n hx hb dJ13_copyOf_3_18 rfl (lv_at hl 1 rfl) ?_
  refine lv_iconst (v := (0 : Int32)) hx hb dJ13_copyOf_3_19 (by decide) ?_
  refine c_aload_n hx hb dJ13_copyOf_3_20 rfl (lv_at hl 0 rfl) ?_
  refine lv_iconst (v := (0 : Int32)) hx hb dJ13_copyOf_3_21 (by decide) ?_
  refine c_aload_n hx hb dJ13_copyOf_3_22 rfl (lv_at hl 1 rfl) ?_
  replace z := ob z
  obtain ⟨v4, zv4, z⟩ := z
  refine c_alen S hG hH 3 rfl zv4 dJ13_copyOf_3_23 ?_
  refine lv_iload_n hx hb dJ13_copyOf_3_24 rfl (lv_at hl 2 rfl) ?_
  replace z := ob z
  obtain ⟨x5, zx5, z⟩ := z
  refine c_calli hH hS hRM (fun _ _ f1 f2 => va_runS (As := [.int v4, .int a1]) (rest := [.int (0 : Int32), va_rf (some h.2.1), .int (0 : Int32), va_rf a0]) S (metJ12_min zx5) (va_cwS 2 hts (lw_S q897 q898 q187 q899) rfl rfl rfl (by decide +kernel) ⟨(Nat.le_of_ble_eq_true rfl), (Nat.le_of_ble_eq_true rfl)⟩) (c_pre hG hH hS) rfl rfl hl.1 rfl (lv_room (by simp [ct_r, ct_i, ct_l])) dJ13_copyOf_3_25 ⟨f1, f2⟩) (fun H locs hH hS => ?_)
  replace z := ob z
  obtain ⟨h6, zh6, z⟩ := z
  refine c_copyB S hG hH hS hl.1 q900 q902 q901 q189 zh6 (Nat.le_of_ble_eq_true rfl) (Nat.le_of_ble_eq_true rfl) dJ13_copyOf_3_28 (fun H locs hH hS => ?_)
  refine c_aload_n hx hb dJ13_copyOf_3_31 rfl (lv_at hl 0 rfl) ?_
  exact c_aret S hr (Or.inr ⟨_, rfl⟩) hlk hH hS z dJ13_copyOf_3_32
/-! java/lang/AbstractStringBuilder.<init>(I)V -/
def fJ14_init (K : KE) (h : HS) (a0 : Nat) (a1 : Int32) : Option (HS) :=
  if (1 : Int32) = 0 then
    none
  else
  (nA K h 3 (.inl (fun _ => 0)) a1).bind fun h2 =>
  (pV h2 (some a0) 21 0 (va_rf (some h.2.1))).bind fun h3 =>
  (pV h3 (some a0) 21 1 (.int (0 : Int32))).bind fun h4 =>
  some h4
set_option maxHeartbeats 4000000 in
theorem metJ14_init {l : Launch} {A : Nat → Prop} {D : va_G} {ac : Nat → ClassId} {K : KE} {h : HS} {a0 : Nat} {a1 : Int32} {x : HS} (z : fJ14_init K h a0 a1 = some x) : Met l yJ14_init (ws_ yJ14_init cJ14_init 2 (none)) (rmC 2 40 K h) (cP A D ac K h [va_rf (some a0), .int a1]) (cQv A D ac K x) (K.2.2.1 - h.2.1) (K.2.2.2 - h.2.2) A := by
  refine c_entry (plainFor_of_name (by decide)) (Nat.le_of_ble_eq_true rfl) ?_
  intro p e s m below meth c S hr hlk hnm hG hRM hH hS ls hl
  replace hl : lv_has ls 2 [(0, va_rf (some a0)), (1, .int a1)] := hl
  replace hnm : meth.name = "<init>" := hnm
  replace S : CallFix p m c cJ14_init 2 s _ lw_all RJ14 := S
  obtain ⟨hx, hb, hml, hown, hts⟩ := id S
  unfold fJ14_init at z
  refine c_aload_n hx hb dJ14_init_0 rfl (lv_at hl 0 rfl) ?_
  refine c_obj S q1015 q213 q214 hl.1 (Nat.le_of_ble_eq_true rfl) (Nat.le_of_ble_eq_true rfl) (Nat.le_of_ble_eq_true rfl) dJ14_init_1 ?_
  refine c_getsC S hG hS q1016 dJ14_init_4 ?_
  refine lv_if_eq (tgt := 25) hx hb dJ14_init_7 (by decide) (fun c1 => ?_) (fun c1 => ?_)
  · replace z := it c1 z
    refine c_aload_n hx hb dJ14_init_25 rfl (lv_at hl 0 rfl) ?_
    refine lv_iload_n hx hb dJ14_init_26 rfl (lv_at hl 1 rfl) ?_
    cases z
  replace z := ie c1 z
  refine c_aload_n hx hb dJ14_init_10 rfl (lv_at hl 0 rfl) ?_
  refine lv_iload_n hx hb dJ14_init_11 rfl (lv_at hl 1 rfl) ?_
  replace z := ob z
  obtain ⟨h2, zh2, z⟩ := z
  refine c_newa S hG hH hS hRM 3 (atype := .byte) (ty := .byte) rfl rfl (fun y => y) (by decide) q381 (fun _ => rfl) zh2 dJ14_init_12 (fun H locs hH hS => ?_)
  replace z := ob z
  obtain ⟨h3, zh3, z⟩ := z
  refine c_put S hG hH hS (ci := 21) (k := 0) rfl in_J15 tyJ15 tyJ15_ok nmJ15 (Nat.le_of_ble_eq_true rfl) q1018 (fun _ y => y) rfl (ty := .array .byte) rfl (nr_a _) (ft_a _) zh3 dJ14_init_14 (fun H locs hH hS => ?_)
  refine c_aload_n hx hb dJ14_init_17 rfl (lv_at hl 0 rfl) ?_
  refine lv_iconst (v := (0 : Int32)) hx hb dJ14_init_18 (by decide) ?_
  replace z := ob z
  obtain ⟨h4, zh4, z⟩ := z
  refine c_put S hG hH hS (ci := 21) (k := 1) rfl in_J15 tyJ15 tyJ15_ok nmJ15 (Nat.le_of_ble_eq_true rfl) q1019 (fun _ y => y) rfl (ty := .byte) rfl rfl rfl zh4 dJ14_init_19 (fun H locs hH hS => ?_)
  refine lv_goto (tgt := 38) hx hb dJ14_init_22 (by decide) ?_
  exact c_vret S hr hlk hH hS z dJ14_init_38
/-! java/lang/AbstractStringBuilder.newCapacity(I)I -/
def fJ14_newCapacity (K : KE) (h : HS) (a0 : Nat) (a1 : Int32) : Option (Int32) :=
  (gR K h (some a0) 21 0).bind fun v1 =>
  (cN K h v1 3).bind fun v2 =>
  (gI K h (some a0) 21 1).bind fun v3 =>
  (gI K h (some a0) 21 1).bind fun v4 =>
  (fJ10_newLength K h v2 ((a1 <<< (v3 &&& 31)) - v2) (v2 + ((2 : Int32) <<< (v4 &&& 31)))).bind fun x5 =>
  if x5 = (2147483647 : Int32) then
    none
  else
  (gI K h (some a0) 21 1).bind fun v7 =>
  some (x5 >>> (v7 &&& 31))
set_option maxHeartbeats 4000000 in
theorem metJ14_newCapacity {l : Launch} {A : Nat → Prop} {D : va_G} {ac : Nat → ClassId} {K : KE} {h : HS} {a0 : Nat} {a1 : Int32} {x : Int32} (z : fJ14_newCapacity K h a0 a1 = some x) : Met l yJ14_newCapacity (ws_ yJ14_newCapacity cJ14_newCapacity 6 (some .int)) (rmC 3 44 K h) (cP A D ac K h [va_rf (some a0), .int a1]) (cQi A D ac K (h, x)) (K.2.2.1 - h.2.1) (K.2.2.2 - h.2.2) A := by
  refine c_entry (plainFor_of_name (by decide)) (Nat.le_of_ble_eq_true rfl) ?_
  intro p e s m below meth c S hr hlk hnm hG hRM hH hS ls hl
  replace hl : lv_has ls 6 [(0, va_rf (some a0)), (1, .int a1)] := hl
  replace hnm : meth.name = "newCapacity" := hnm
  replace S : CallFix p m c cJ14_newCapacity 6 s _ lw_all RJ14 := S
  obtain ⟨hx, hb, hml, hown, hts⟩ := id S
  unfold fJ14_newCapacity at z
  refine c_aload_n hx hb dJ14_newCapacity_0 rfl (lv_at hl 0 rfl) ?_
  replace z := ob z
  obtain ⟨v1, zv1, z⟩ := z
  obtain ⟨fsv1, yv1, zv1⟩ := gR_e zv1
  refine c_get S hG hH (ci := 21) (k := 0) rfl in_J15 (Nat.le_of_ble_eq_true rfl) q1018 (fun _ y => y) yv1 zv1 dJ14_newCapacity_1 ?_
  replace z := ob z
  obtain ⟨v2, zv2, z⟩ := z
  refine c_alen S hG hH 3 rfl zv2 dJ14_newCapacity_4 ?_
  refine lv_istore_n (lv' := [(2, .int v2), (0, va_rf (some a0)), (1, .int a1)]) hx hb dJ14_newCapacity_5 rfl hl (by decide) rfl (fun ls hl => ?_)
  refine lv_iload_n hx hb dJ14_newCapacity_6 rfl (lv_at hl 2 rfl) ?_
  refine c_aload_n hx hb dJ14_newCapacity_7 rfl (lv_at hl 1 rfl) ?_
  replace z := ob z
  obtain ⟨v3, zv3, z⟩ := z
  obtain ⟨fsv3, yv3, zv3⟩ := gI_e zv3
  refine c_get S hG hH (ci := 21) (k := 1) rfl in_J15 (Nat.le_of_ble_eq_true rfl) q1019 (fun _ y => y) yv3 zv3 dJ14_newCapacity_8 ?_
  refine lv_ishl hx hb dJ14_newCapacity_11 ?_
  refine lv_istore_n (lv' := [(3, .int (a1 <<< (v3 &&& 31))), (2, .int v2), (0, va_rf (some a0)), (1, .int a1)]) hx hb dJ14_newCapacity_12 rfl hl (by decide) rfl (fun ls hl => ?_)
  refine lv_iload_n hx hb dJ14_newCapacity_13 rfl (lv_at hl 0 rfl) ?_
  refine lv_iload_n hx hb dJ14_newCapacity_14 rfl (lv_at hl 1 rfl) ?_
  refine lv_isub hx hb dJ14_newCapacity_15 ?_
  refine lv_istore (lv' := [(4, .int ((a1 <<< (v3 &&& 31)) - v2)), (3, .int (a1 <<< (v3 &&& 31))), (2, .int v2), (0, va_rf (some a0)), (1, .int a1)]) hx hb dJ14_newCapacity_16 hl (by decide) rfl (fun ls hl => ?_)
  refine lv_iload_n hx hb dJ14_newCapacity_18 rfl (lv_at hl 2 rfl) ?_
  refine lv_iload hx hb dJ14_newCapacity_19 (lv_at hl 0 rfl) ?_
  refine lv_iload_n hx hb dJ14_newCapacity_21 rfl (lv_at hl 2 rfl) ?_
  refine lv_iconst (v := (2 : Int32)) hx hb dJ14_newCapacity_22 (by decide) ?_
  refine c_aload_n hx hb dJ14_newCapacity_23 rfl (lv_at hl 3 rfl) ?_
  replace z := ob z
  obtain ⟨v4, zv4, z⟩ := z
  obtain ⟨fsv4, yv4, zv4⟩ := gI_e zv4
  refine c_get S hG hH (ci := 21) (k := 1) rfl in_J15 (Nat.le_of_ble_eq_true rfl) q1019 (fun _ y => y) yv4 zv4 dJ14_newCapacity_24 ?_
  refine lv_ishl hx hb dJ14_newCapacity_27 ?_
  refine lv_iadd hx hb dJ14_newCapacity_28 ?_
  replace z := ob z
  obtain ⟨x5, zx5, z⟩ := z
  refine c_calli hH hS hRM (fun _ _ f1 f2 => va_runS (As := [.int v2, .int ((a1 <<< (v3 &&& 31)) - v2), .int (v2 + ((2 : Int32) <<< (v4 &&& 31)))]) (rest := []) S (metJ10_newLength zx5) (va_cwS 3 hts (lw_S q1138 q852 q184 q853) rfl rfl rfl (by decide +kernel) ⟨(Nat.le_of_ble_eq_true rfl), (Nat.le_of_ble_eq_true rfl)⟩) (c_pre hG hH hS) rfl rfl hl.1 rfl (lv_room (Nat.le_of_ble_eq_true rfl)) dJ14_newCapacity_29 ⟨f1, f2⟩) (fun H locs hH hS => ?_)
  refine lv_istore (lv' := [(5, .int x5), (4, .int ((a1 <<< (v3 &&& 31)) - v2)), (3, .int (a1 <<< (v3 &&& 31))), (2, .int v2), (0, va_rf (some a0)), (1, .int a1)]) hx hb dJ14_newCapacity_32 hl (by decide) rfl (fun ls hl => ?_)
  refine lv_iload hx hb dJ14_newCapacity_34 (lv_at hl 0 rfl) ?_
  refine lv_ldc hx hb hown (hts _ q1139) dJ14_newCapacity_36 ?_
  refine lv_icmp_ne (tgt := 51) hx hb dJ14_newCapacity_38 (by decide) (fun c6 => ?_) (fun c6 => ?_)
  rotate_left 1
  · replace z := it c6 z
    cases z
  replace z := ie c6 z
  refine lv_iload hx hb dJ14_newCapacity_51 (lv_at hl 0 rfl) ?_
  refine c_aload_n hx hb dJ14_newCapacity_53 rfl (lv_at hl 4 rfl) ?_
  replace z := ob z
  obtain ⟨v7, zv7, z⟩ := z
  obtain ⟨fsv7, yv7, zv7⟩ := gI_e zv7
  refine c_get S hG hH (ci := 21) (k := 1) rfl in_J15 (Nat.le_of_ble_eq_true rfl) q1019 (fun _ y => y) yv7 zv7 dJ14_newCapacity_54 ?_
  refine lv_ishr hx hb dJ14_newCapacity_57 ?_
  exact c_iret' S hr hlk rfl hH hS z dJ14_newCapacity_58
/-! java/lang/AbstractStringBuilder.ensureCapacityInternal(I)V -/
def fJ14_ensureCapacityInternal (K : KE) (h : HS) (a0 : Nat) (a1 : Int32) : Option (HS) :=
  (gR K h (some a0) 21 0).bind fun v1 =>
  (cN K h v1 3).bind fun v2 =>
  (gI K h (some a0) 21 1).bind fun v3 =>
  if (a1 - (v2 >>> (v3 &&& 31))) ≤ 0 then
    some h
  else
  (gR K h (some a0) 21 0).bind fun v5 =>
  (rcv K h (some a0) 21).bind fun b6 =>
  (fJ14_newCapacity K h b6 a1).bind fun x7 =>
  (gI K h (some a0) 21 1).bind fun v8 =>
  (fJ13_copyOf_3 K h v5 (x7 <<< (v8 &&& 31))).bind fun x9 =>
  (pV x9.1 (some a0) 21 0 (va_rf x9.2)).bind fun h10 =>
  some h10
set_option maxHeartbeats 4000000 in
theorem metJ14_ensureCapacityInternal {l : Launch} {A : Nat → Prop} {D : va_G} {ac : Nat → ClassId} {K : KE} {h : HS} {a0 : Nat} {a1 : Int32} {x : HS} (z : fJ14_ensureCapacityInternal K h a0 a1 = some x) : Met l yJ14_ensureCapacityInternal (ws_ yJ14_ensureCapacityInternal cJ14_ensureCapacityInternal 3 (none)) (rmC 4 82 K h) (cP A D ac K h [va_rf (some a0), .int a1]) (cQv A D ac K x) (K.2.2.1 - h.2.1) (K.2.2.2 - h.2.2) A := by
  refine c_entry (plainFor_of_name (by decide)) (Nat.le_of_ble_eq_true rfl) ?_
  intro p e s m below meth c S hr hlk hnm hG hRM hH hS ls hl
  replace hl : lv_has ls 3 [(0, va_rf (some a0)), (1, .int a1)] := hl
  replace hnm : meth.name = "ensureCapacityInternal" := hnm
  replace S : CallFix p m c cJ14_ensureCapacityInternal 3 s _ lw_all RJ14 := S
  obtain ⟨hx, hb, hml, hown, hts⟩ := id S
  unfold fJ14_ensureCapacityInternal at z
  refine c_aload_n hx hb dJ14_ensureCapacityInternal_0 rfl (lv_at hl 0 rfl) ?_
  replace z := ob z
  obtain ⟨v1, zv1, z⟩ := z
  obtain ⟨fsv1, yv1, zv1⟩ := gR_e zv1
  refine c_get S hG hH (ci := 21) (k := 0) rfl in_J15 (Nat.le_of_ble_eq_true rfl) q1018 (fun _ y => y) yv1 zv1 dJ14_ensureCapacityInternal_1 ?_
  replace z := ob z
  obtain ⟨v2, zv2, z⟩ := z
  refine c_alen S hG hH 3 rfl zv2 dJ14_ensureCapacityInternal_4 ?_
  refine c_aload_n hx hb dJ14_ensureCapacityInternal_5 rfl (lv_at hl 0 rfl) ?_
  replace z := ob z
  obtain ⟨v3, zv3, z⟩ := z
  obtain ⟨fsv3, yv3, zv3⟩ := gI_e zv3
  refine c_get S hG hH (ci := 21) (k := 1) rfl in_J15 (Nat.le_of_ble_eq_true rfl) q1019 (fun _ y => y) yv3 zv3 dJ14_ensureCapacityInternal_6 ?_
  refine lv_ishr hx hb dJ14_ensureCapacityInternal_9 ?_
  refine lv_istore_n (lv' := [(2, .int (v2 >>> (v3 &&& 31))), (0, va_rf (some a0)), (1, .int a1)]) hx hb dJ14_ensureCapacityInternal_10 rfl hl (by decide) rfl (fun ls hl => ?_)
  refine lv_iload_n hx hb dJ14_ensureCapacityInternal_11 rfl (lv_at hl 2 rfl) ?_
  refine lv_iload_n hx hb dJ14_ensureCapacityInternal_12 rfl (lv_at hl 0 rfl) ?_
  refine lv_isub hx hb dJ14_ensureCapacityInternal_13 ?_
  refine lv_if_le (tgt := 38) hx hb dJ14_ensureCapacityInternal_14 (by decide) (fun c4 => ?_) (fun c4 => ?_)
  · replace z := it c4 z
    exact c_vret S hr hlk hH hS z dJ14_ensureCapacityInternal_38
  replace z := ie c4 z
  refine c_aload_n hx hb dJ14_ensureCapacityInternal_17 rfl (lv_at hl 1 rfl) ?_
  refine c_aload_n hx hb dJ14_ensureCapacityInternal_18 rfl (lv_at hl 1 rfl) ?_
  replace z := ob z
  obtain ⟨v5, zv5, z⟩ := z
  obtain ⟨fsv5, yv5, zv5⟩ := gR_e zv5
  refine c_get S hG hH (ci := 21) (k := 0) rfl in_J15 (Nat.le_of_ble_eq_true rfl) q1018 (fun _ y => y) yv5 zv5 dJ14_ensureCapacityInternal_19 ?_
  refine c_aload_n hx hb dJ14_ensureCapacityInternal_22 rfl (lv_at hl 1 rfl) ?_
  refine lv_iload_n hx hb dJ14_ensureCapacityInternal_23 rfl (lv_at hl 2 rfl) ?_
  replace z := ob z
  obtain ⟨b6, zb6, z⟩ := z
  obtain ⟨yb6, zb6⟩ := rcv_e zb6
  replace z := ob z
  obtain ⟨x7, zx7, z⟩ := z
  refine c_calli hH hS hRM (fun _ _ f1 f2 => va_runU (b := b6) (As := [.int a1]) (rest := [va_rf v5, va_rf (some a0)]) S (metJ14_newCapacity zx7) (va_cwP 1 hts (lw_meth q1137) rfl rfl rfl q1134 q2631 (va_Nw.use rfl hG.2.1.2.2.2.2.2.2.2) q1136 q194 rfl (by decide +kernel) ⟨(Nat.le_of_ble_eq_true rfl), (Nat.le_of_ble_eq_true rfl)⟩) (c_preV hG hH hS (ci := 21) rfl zb6) rfl rfl hl.1 (by rw [yb6]; rfl) (lv_room (by simp [ct_r, ct_i, ct_l])) dJ14_ensureCapacityInternal_24 ⟨f1, f2⟩) (fun H locs hH hS => ?_)
  refine c_aload_n hx hb dJ14_ensureCapacityInternal_27 rfl (lv_at hl 1 rfl) ?_
  replace z := ob z
  obtain ⟨v8, zv8, z⟩ := z
  obtain ⟨fsv8, yv8, zv8⟩ := gI_e zv8
  refine c_get S hG hH (ci := 21) (k := 1) rfl in_J15 (Nat.le_of_ble_eq_true rfl) q1019 (fun _ y => y) yv8 zv8 dJ14_ensureCapacityInternal_28 ?_
  refine lv_ishl hx hb dJ14_ensureCapacityInternal_31 ?_
  replace z := ob z
  obtain ⟨x9, zx9, z⟩ := z
  refine c_callq hH hS hRM (fun _ _ f1 f2 => va_runS (As := [va_rf v5, .int (x7 <<< (v8 &&& 31))]) (rest := [va_rf (some a0)]) S (metJ13_copyOf_3 zx9) (va_cwS 2 hts (lw_S q1140 q1141 q188 q1142) rfl rfl rfl (by decide +kernel) ⟨(Nat.le_of_ble_eq_true rfl), (Nat.le_of_ble_eq_true rfl)⟩) (c_pre hG hH hS) rfl rfl hl.1 rfl (lv_room (Nat.le_of_ble_eq_true rfl)) dJ14_ensureCapacityInternal_32 ⟨f1, f2⟩) (fun H locs hH hS => ?_)
  replace z := ob z
  obtain ⟨h10, zh10, z⟩ := z
  refine c_put S hG hH hS (ci := 21) (k := 0) rfl in_J15 tyJ15 tyJ15_ok nmJ15 (Nat.le_of_ble_eq_true rfl) q1018 (fun _ y => y) rfl (ty := .array .byte) rfl (nr_a _) (ft_a _) zh10 dJ14_ensureCapacityInternal_35 (fun H locs hH hS => ?_)
  exact c_vret S hr hlk hH hS z dJ14_ensureCapacityInternal_38
/-! java/lang/AbstractStringBuilder.isLatin1()Z -/
def fJ14_isLatin1 (K : KE) (h : HS) (a0 : Nat) : Option (Int32) :=
  if (1 : Int32) = 0 then
    some (0 : Int32)
  else
  (gI K h (some a0) 21 1).bind fun v2 =>
  if v2 = 0 then
    some (1 : Int32)
  else
  some (0 : Int32)
set_option maxHeartbeats 4000000 in
theorem metJ14_isLatin1 {l : Launch} {A : Nat → Prop} {D : va_G} {ac : Nat → ClassId} {K : KE} {h : HS} {a0 : Nat} {x : Int32} (z : fJ14_isLatin1 K h a0 = some x) : Met l yJ14_isLatin1 (ws_ yJ14_isLatin1 cJ14_isLatin1 1 (some .boolean)) (rmC 1 0 K h) (cP A D ac K h [va_rf (some a0)]) (cQi A D ac K (h, x)) (K.2.2.1 - h.2.1) (K.2.2.2 - h.2.2) A := by
  refine c_entry (plainFor_of_name (by decide)) (Nat.le_of_ble_eq_true rfl) ?_
  intro p e s m below meth c S hr hlk hnm hG hRM hH hS ls hl
  replace hl : lv_has ls 1 [(0, va_rf (some a0))] := hl
  replace hnm : meth.name = "isLatin1" := hnm
  replace S : CallFix p m c cJ14_isLatin1 1 s _ lw_all RJ14 := S
  obtain ⟨hx, hb, hml, hown, hts⟩ := id S
  unfold fJ14_isLatin1 at z
  refine c_getsC S hG hS q1016 dJ14_isLatin1_0 ?_
  refine lv_if_eq (tgt := 17) hx hb dJ14_isLatin1_3 (by decide) (fun c1 => ?_) (fun c1 => ?_)
  · replace z := it c1 z
    refine lv_iconst (v := (0 : Int32)) hx hb dJ14_isLatin1_17 (by decide) ?_
    exact c_iret' S hr hlk rfl hH hS z dJ14_isLatin1_18
  replace z := ie c1 z
  refine c_aload_n hx hb dJ14_isLatin1_6 rfl (lv_at hl 0 rfl) ?_
  replace z := ob z
  obtain ⟨v2, zv2, z⟩ := z
  obtain ⟨fsv2, yv2, zv2⟩ := gI_e zv2
  refine c_get S hG hH (ci := 21) (k := 1) rfl in_J15 (Nat.le_of_ble_eq_true rfl) q1019 (fun _ y => y) yv2 zv2 dJ14_isLatin1_7 ?_
  refine lv_if_ne (tgt := 17) hx hb dJ14_isLatin1_10 (by decide) (fun c3 => ?_) (fun c3 => ?_)
  · replace z := ie c3 z
    refine lv_iconst (v := (0 : Int32)) hx hb dJ14_isLatin1_17 (by decide) ?_
    exact c_iret' S hr hlk rfl hH hS z dJ14_isLatin1_18
  replace z := it c3 z
  refine lv_iconst (v := (1 : Int32)) hx hb dJ14_isLatin1_13 (by decide) ?_
  refine lv_goto (tgt := 18) hx hb dJ14_isLatin1_14 (by decide) ?_
  exact c_iret' S hr hlk rfl hH hS z dJ14_isLatin1_18
/-! java/lang/StringLatin1.canEncode(C)Z -/
def fJ9_canEncode (K : KE) (h : HS) (a0 : Int32) : Option (Int32) :=
  if (255 : Int32) < a0 then
    some (0 : Int32)
  else
  some (1 : Int32)
set_option maxHeartbeats 4000000 in
theorem metJ9_canEncode {l : Launch} {A : Nat → Prop} {D : va_G} {ac : Nat → ClassId} {K : KE} {h : HS} {a0 : Int32} {x : Int32} (z : fJ9_canEncode K h a0 = some x) : Met l yJ9_canEncode (ws_ yJ9_canEncode cJ9_canEncode 1 (some .boolean)) (rmC 1 0 K h) (cP A D ac K h [.int a0]) (cQi A D ac K (h, x)) (K.2.2.1 - h.2.1) (K.2.2.2 - h.2.2) A := by
  refine c_entry (plainFor_of_name (by decide)) (Nat.le_of_ble_eq_true rfl) ?_
  intro p e s m below meth c S hr hlk hnm hG hRM hH hS ls hl
  replace hl : lv_has ls 1 [(0, .int a0)] := hl
  replace hnm : meth.name = "canEncode" := hnm
  replace S : CallFix p m c cJ9_canEncode 1 s _ lw_all RJ9 := S
  obtain ⟨hx, hb, hml, hown, hts⟩ := id S
  unfold fJ9_canEncode at z
  refine lv_iload_n hx hb dJ9_canEncode_0 rfl (lv_at hl 0 rfl) ?_
  refine lv_sipush (v := (255 : Int32)) hx hb dJ9_canEncode_1 (by decide) ?_
  refine lv_icmp_gt (tgt := 11) hx hb dJ9_canEncode_4 (by decide) (fun c1 => ?_) (fun c1 => ?_)
  · replace z := it c1 z
    refine lv_iconst (v := (0 : Int32)) hx hb dJ9_canEncode_11 (by decide) ?_
    exact c_iret' S hr hlk rfl hH hS z dJ9_canEncode_12
  replace z := ie c1 z
  refine lv_iconst (v := (1 : Int32)) hx hb dJ9_canEncode_7 (by decide) ?_
  refine lv_goto (tgt := 12) hx hb dJ9_canEncode_8 (by decide) ?_
  exact c_iret' S hr hlk rfl hH hS z dJ9_canEncode_12
/-! java/lang/AbstractStringBuilder.append(C)Ljava/lang/AbstractStringBuilder; -/
def fJ14_append_56 (K : KE) (a0 : Nat) (h : HS) (a1 : Int32) : Option (HS × Option Nat) :=
  (gR K h (some a0) 21 0).bind fun v1 =>
  (gI K h (some a0) 21 3).bind fun v2 =>
  (pV h (some a0) 21 3 (.int (v2 + (1 : Int32)))).bind fun h3 =>
  none
def fJ14_append_45 (K : KE) (a0 : Nat) (h : HS) (a1 : Int32) : Option (HS × Option Nat) :=
  (rcv K h (some a0) 21).bind fun b1 =>
  (fJ14_isLatin1 K h b1).bind fun x2 =>
  if x2 = 0 then
    fJ14_append_56 K a0 h a1
  else
  none
def fJ14_append (K : KE) (h : HS) (a0 : Nat) (a1 : Int32) : Option (HS × Option Nat) :=
  (gI K h (some a0) 21 3).bind fun v1 =>
  (rcv K h (some a0) 21).bind fun b2 =>
  (fJ14_ensureCapacityInternal K h b2 (v1 + (1 : Int32))).bind fun x3 =>
  (rcv K x3 (some a0) 21).bind fun b4 =>
  (fJ14_isLatin1 K x3 b4).bind fun x5 =>
  if x5 = 0 then
    fJ14_append_45 K a0 x3 a1
  else
  (fJ9_canEncode K x3 a1).bind fun x7 =>
  if x7 = 0 then
    fJ14_append_45 K a0 x3 a1
  else
  (gR K x3 (some a0) 21 0).bind fun v9 =>
  (gI K x3 (some a0) 21 3).bind fun v10 =>
  (pV x3 (some a0) 21 3 (.int (v10 + (1 : Int32)))).bind fun h11 =>
  (sC h11 v9 3 v10 (vp_nar .byte a1.toInt8.toInt32)).bind fun h12 =>
  some (h12, (some a0))
set_option maxHeartbeats 4000000 in
theorem wJ14_append_56 {p : Program} {l : Launch} {e : Env} {s : State} {m : MethodId} {args : Array Value} {below : List Frame} {meth : Method} {c : Code} {A : Nat → Prop} {D : va_G} {ac : Nat → ClassId} {K : KE} {h0 : HS} {a0 : Nat} (S : CallFix p m c cJ14_append 2 s args lw_all RJ14) (hr : meth.sig.returnType = some (.object "java/lang/AbstractStringBuilder")) (hlk : meth.locks = false) (hnm : meth.name = "append") (hG : GK A D ac K s) (hRM : RM K s (rmC 5 104 K h0)) {x : HS × Option Nat} : ∀ (h : HS) (a1 : Int32), fJ14_append_56 K a0 h a1 = some x → cGo p l e (rmC 5 104 K h0) s m args below meth c A D ac K (MQ below (cQq A D ac K x) args s (K.2.2.1 - h0.2.1) (K.2.2.2 - h0.2.2) A) 2 56 [(0, va_rf (some a0)), (1, .int a1)] [] h := by
  obtain ⟨hx, hb, hml, hown, hts⟩ := id S
  intro h a1 z H locs hH hS ls hl
  unfold fJ14_append_56 at z
  refine c_aload_n hx hb dJ14_append_56 rfl (lv_at hl 0 rfl) ?_
  replace z := ob z
  obtain ⟨v1, zv1, z⟩ := z
  obtain ⟨fsv1, yv1, zv1⟩ := gR_e zv1
  refine c_get S hG hH (ci := 21) (k := 0) rfl in_J15 (Nat.le_of_ble_eq_true rfl) q1018 (fun _ y => y) yv1 zv1 dJ14_append_57 ?_
  refine c_aload_n hx hb dJ14_append_60 rfl (lv_at hl 0 rfl) ?_
  refine lv_dup hx hb dJ14_append_61 rfl ?_
  replace z := ob z
  obtain ⟨v2, zv2, z⟩ := z
  obtain ⟨fsv2, yv2, zv2⟩ := gI_e zv2
  refine c_get S hG hH (ci := 21) (k := 3) rfl in_J15 (Nat.le_of_ble_eq_true rfl) q1020 (fun _ y => y) yv2 zv2 dJ14_append_62 ?_
  refine lv_dup_x1 hx hb dJ14_append_65 rfl rfl ?_
  refine lv_iconst (v := (1 : Int32)) hx hb dJ14_append_66 (by decide) ?_
  refine lv_iadd hx hb dJ14_append_67 ?_
  replace z := ob z
  obtain ⟨h3, zh3, z⟩ := z
  refine c_put S hG hH hS (ci := 21) (k := 3) rfl in_J15 tyJ15 tyJ15_ok nmJ15 (Nat.le_of_ble_eq_true rfl) q1020 (fun _ y => y) rfl (ty := .int) rfl rfl rfl zh3 dJ14_append_68 (fun H locs hH hS => ?_)
  refine lv_iload_n hx hb dJ14_append_71 rfl (lv_at hl 1 rfl) ?_
  cases z
set_option maxHeartbeats 4000000 in
theorem wJ14_append_45 {p : Program} {l : Launch} {e : Env} {s : State} {m : MethodId} {args : Array Value} {below : List Frame} {meth : Method} {c : Code} {A : Nat → Prop} {D : va_G} {ac : Nat → ClassId} {K : KE} {h0 : HS} {a0 : Nat} (S : CallFix p m c cJ14_append 2 s args lw_all RJ14) (hr : meth.sig.returnType = some (.object "java/lang/AbstractStringBuilder")) (hlk : meth.locks = false) (hnm : meth.name = "append") (hG : GK A D ac K s) (hRM : RM K s (rmC 5 104 K h0)) {x : HS × Option Nat} : ∀ (h : HS) (a1 : Int32), fJ14_append_45 K a0 h a1 = some x → cGo p l e (rmC 5 104 K h0) s m args below meth c A D ac K (MQ below (cQq A D ac K x) args s (K.2.2.1 - h0.2.1) (K.2.2.2 - h0.2.2) A) 2 45 [(0, va_rf (some a0)), (1, .int a1)] [] h := by
  obtain ⟨hx, hb, hml, hown, hts⟩ := id S
  intro h a1 z H locs hH hS ls hl
  unfold fJ14_append_45 at z
  refine c_aload_n hx hb dJ14_append_45 rfl (lv_at hl 0 rfl) ?_
  replace z := ob z
  obtain ⟨b1, zb1, z⟩ := z
  obtain ⟨yb1, zb1⟩ := rcv_e zb1
  replace z := ob z
  obtain ⟨x2, zx2, z⟩ := z
  refine c_calli hH hS hRM (fun _ _ f1 f2 => va_runU (b := b1) (As := []) (rest := []) S (metJ14_isLatin1 zx2) (va_cwU 0 hts (lw_app (lw_l5 q1150 q1152 q1153 q1151 q194) (lw_meth q1154)) rfl rfl rfl rfl (by decide +kernel) ⟨(Nat.le_of_ble_eq_true rfl), (Nat.le_of_ble_eq_true rfl)⟩) (c_preV hG hH hS (ci := 21) rfl zb1) rfl rfl hl.1 (by rw [yb1]; rfl) (lv_room (Nat.le_of_ble_eq_true rfl)) dJ14_append_46 ⟨f1, f2⟩) (fun H locs hH hS => ?_)
  refine lv_if_eq (tgt := 56) hx hb dJ14_append_49 (by decide) (fun c3 => ?_) (fun c3 => ?_)
  · replace z := it c3 z
    exact wJ14_append_56 S hr hlk hnm hG hRM h a1 z _ _ hH hS _ (lv_sub hl [0, 1] rfl)
  replace z := ie c3 z
  refine c_aload_n hx hb dJ14_append_52 rfl (lv_at hl 0 rfl) ?_
  cases z
set_option maxHeartbeats 4000000 in
theorem metJ14_append {l : Launch} {A : Nat → Prop} {D : va_G} {ac : Nat → ClassId} {K : KE} {h : HS} {a0 : Nat} {a1 : Int32} {x : HS × Option Nat} (z : fJ14_append K h a0 a1 = some x) : Met l yJ14_append (ws_ yJ14_append cJ14_append 2 (some (.object "java/lang/AbstractStringBuilder"))) (rmC 5 104 K h) (cP A D ac K h [va_rf (some a0), .int a1]) (cQq A D ac K x) (K.2.2.1 - h.2.1) (K.2.2.2 - h.2.2) A := by
  refine c_entry (plainFor_of_name (by decide)) (Nat.le_of_ble_eq_true rfl) ?_
  intro p e s m below meth c S hr hlk hnm hG hRM hH hS ls hl
  replace hl : lv_has ls 2 [(0, va_rf (some a0)), (1, .int a1)] := hl
  replace hnm : meth.name = "append" := hnm
  replace S : CallFix p m c cJ14_append 2 s _ lw_all RJ14 := S
  obtain ⟨hx, hb, hml, hown, hts⟩ := id S
  unfold fJ14_append at z
  refine c_aload_n hx hb dJ14_append_0 rfl (lv_at hl 0 rfl) ?_
  refine c_aload_n hx hb dJ14_append_1 rfl (lv_at hl 0 rfl) ?_
  replace z := ob z
  obtain ⟨v1, zv1, z⟩ := z
  obtain ⟨fsv1, yv1, zv1⟩ := gI_e zv1
  refine c_get S hG hH (ci := 21) (k := 3) rfl in_J15 (Nat.le_of_ble_eq_true rfl) q1020 (fun _ y => y) yv1 zv1 dJ14_append_2 ?_
  refine lv_iconst (v := (1 : Int32)) hx hb dJ14_append_5 (by decide) ?_
  refine lv_iadd hx hb dJ14_append_6 ?_
  replace z := ob z
  obtain ⟨b2, zb2, z⟩ := z
  obtain ⟨yb2, zb2⟩ := rcv_e zb2
  replace z := ob z
  obtain ⟨x3, zx3, z⟩ := z
  refine c_callv hH hS hRM (fun _ _ f1 f2 => va_runU (b := b2) (As := [.int (v1 + (1 : Int32))]) (rest := []) S (metJ14_ensureCapacityInternal zx3) (va_cwP 1 hts (lw_meth q1133) rfl rfl rfl q1130 q2630 (va_Nw.use rfl hG.2.1.2.2.2.2.2.2.1) q1132 q194 rfl (by decide +kernel) ⟨(Nat.le_of_ble_eq_true rfl), (Nat.le_of_ble_eq_true rfl)⟩) (c_preV hG hH hS (ci := 21) rfl zb2) rfl rfl hl.1 (by rw [yb2]; rfl) (lv_room (Nat.le_of_ble_eq_true rfl)) dJ14_append_7 ⟨f1, f2⟩) (fun H locs hH hS => ?_)
  refine c_aload_n hx hb dJ14_append_10 rfl (lv_at hl 0 rfl) ?_
  replace z := ob z
  obtain ⟨b4, zb4, z⟩ := z
  obtain ⟨yb4, zb4⟩ := rcv_e zb4
  replace z := ob z
  obtain ⟨x5, zx5, z⟩ := z
  refine c_calli hH hS hRM (fun _ _ f1 f2 => va_runU (b := b4) (As := []) (rest := []) S (metJ14_isLatin1 zx5) (va_cwU 0 hts (lw_app (lw_l5 q1150 q1152 q1153 q1151 q194) (lw_meth q1154)) rfl rfl rfl rfl (by decide +kernel) ⟨(Nat.le_of_ble_eq_true rfl), (Nat.le_of_ble_eq_true rfl)⟩) (c_preV hG hH hS (ci := 21) rfl zb4) rfl rfl hl.1 (by rw [yb4]; rfl) (lv_room (Nat.le_of_ble_eq_true rfl)) dJ14_append_11 ⟨f1, f2⟩) (fun H locs hH hS => ?_)
  refine lv_if_eq (tgt := 45) hx hb dJ14_append_14 (by decide) (fun c6 => ?_) (fun c6 => ?_)
  · replace z := it c6 z
    exact wJ14_append_45 S hr hlk hnm hG hRM x3 a1 z _ _ hH hS _ (lv_sub hl [0, 1] rfl)
  replace z := ie c6 z
  refine lv_iload_n hx hb dJ14_append_17 rfl (lv_at hl 1 rfl) ?_
  replace z := ob z
  obtain ⟨x7, zx7, z⟩ := z
  refine c_calli hH hS hRM (fun _ _ f1 f2 => va_runS (As := [.int a1]) (rest := []) S (metJ9_canEncode zx7) (va_cwS 1 hts (lw_S q1155 q1156 q183 q1157) rfl rfl rfl (by decide +kernel) ⟨(Nat.le_of_ble_eq_true rfl), (Nat.le_of_ble_eq_true rfl)⟩) (c_pre hG hH hS) rfl rfl hl.1 rfl (lv_room (Nat.le_of_ble_eq_true rfl)) dJ14_append_18 ⟨f1, f2⟩) (fun H locs hH hS => ?_)
  refine lv_if_eq (tgt := 45) hx hb dJ14_append_21 (by decide) (fun c8 => ?_) (fun c8 => ?_)
  · replace z := it c8 z
    exact wJ14_append_45 S hr hlk hnm hG hRM x3 a1 z _ _ hH hS _ (lv_sub hl [0, 1] rfl)
  replace z := ie c8 z
  refine c_aload_n hx hb dJ14_append_24 rfl (lv_at hl 0 rfl) ?_
  replace z := ob z
  obtain ⟨v9, zv9, z⟩ := z
  obtain ⟨fsv9, yv9, zv9⟩ := gR_e zv9
  refine c_get S hG hH (ci := 21) (k := 0) rfl in_J15 (Nat.le_of_ble_eq_true rfl) q1018 (fun _ y => y) yv9 zv9 dJ14_append_25 ?_
  refine c_aload_n hx hb dJ14_append_28 rfl (lv_at hl 0 rfl) ?_
  refine lv_dup hx hb dJ14_append_29 rfl ?_
  replace z := ob z
  obtain ⟨v10, zv10, z⟩ := z
  obtain ⟨fsv10, yv10, zv10⟩ := gI_e zv10
  refine c_get S hG hH (ci := 21) (k := 3) rfl in_J15 (Nat.le_of_ble_eq_true rfl) q1020 (fun _ y => y) yv10 zv10 dJ14_append_30 ?_
  refine lv_dup_x1 hx hb dJ14_append_33 rfl rfl ?_
  refine lv_iconst (v := (1 : Int32)) hx hb dJ14_append_34 (by decide) ?_
  refine lv_iadd hx hb dJ14_append_35 ?_
  replace z := ob z
  obtain ⟨h11, zh11, z⟩ := z
  refine c_put S hG hH hS (ci := 21) (k := 3) rfl in_J15 tyJ15 tyJ15_ok nmJ15 (Nat.le_of_ble_eq_true rfl) q1020 (fun _ y => y) rfl (ty := .int) rfl rfl rfl zh11 dJ14_append_36 (fun H locs hH hS => ?_)
  refine lv_iload_n hx hb dJ14_append_39 rfl (lv_at hl 1 rfl) ?_
  refine lv_i2b (v := a1.toInt8.toInt32) hx hb dJ14_append_40 rfl ?_
  replace z := ob z
  obtain ⟨h12, zh12, z⟩ := z
  refine c_bast S hG hH hS zh12 dJ14_append_41 (fun H locs hH hS => ?_)
  refine lv_goto (tgt := 75) hx hb dJ14_append_42 (by decide) ?_
  refine c_aload_n hx hb dJ14_append_75 rfl (lv_at hl 0 rfl) ?_
  exact c_aret S hr (Or.inl ⟨_, rfl⟩) hlk hH hS z dJ14_append_76
/-! java/lang/String.checkIndex(II)V -/
def fJ6_checkIndex (K : KE) (h : HS) (a0 : Int32) (a1 : Int32) : Option (Unit) :=
  (fJ8_checkIndex K h a0 a1 (K.2.1 6)).bind fun x1 =>
  some ()
set_option maxHeartbeats 4000000 in
theorem metJ6_checkIndex {l : Launch} {A : Nat → Prop} {D : va_G} {ac : Nat → ClassId} {K : KE} {h : HS} {a0 : Int32} {a1 : Int32} {x : Unit} (z : fJ6_checkIndex K h a0 a1 = some x) : Met l yJ6_checkIndex (ws_ yJ6_checkIndex cJ6_checkIndex 2 (none)) (rmC 2 22 K h) (cP A D ac K h [.int a0, .int a1]) (cQv A D ac K h) (K.2.2.1 - h.2.1) (K.2.2.2 - h.2.2) A := by
  refine c_entry (plainFor_of_name (by decide)) (Nat.le_of_ble_eq_true rfl) ?_
  intro p e s m below meth c S hr hlk hnm hG hRM hH hS ls hl
  replace hl : lv_has ls 2 [(0, .int a0), (1, .int a1)] := hl
  replace hnm : meth.name = "checkIndex" := hnm
  replace S : CallFix p m c cJ6_checkIndex 2 s _ lw_all RJ6 := S
  obtain ⟨hx, hb, hml, hown, hts⟩ := id S
  unfold fJ6_checkIndex at z
  refine lv_iload_n hx hb dJ6_checkIndex_0 rfl (lv_at hl 0 rfl) ?_
  refine lv_iload_n hx hb dJ6_checkIndex_1 rfl (lv_at hl 1 rfl) ?_
  refine c_gets S hG hS (i := 6) (List.mem_of_getElem? (i := 6) rfl) q664 dJ6_checkIndex_2 ?_
  replace z := ob z
  obtain ⟨x1, zx1, z⟩ := z
  refine c_calli hH hS hRM (fun _ _ f1 f2 => va_runS (As := [.int a0, .int a1, va_rf (K.2.1 6)]) (rest := []) S (metJ8_checkIndex zx1) (va_cwS 3 hts (lw_S q1177 q812 q182 q813) rfl rfl rfl (by decide +kernel) ⟨(Nat.le_of_ble_eq_true rfl), (Nat.le_of_ble_eq_true rfl)⟩) (c_pre hG hH hS) rfl rfl hl.1 rfl (lv_room (Nat.le_of_ble_eq_true rfl)) dJ6_checkIndex_5 ⟨f1, f2⟩) (fun H locs hH hS => ?_)
  refine lv_pop hx hb dJ6_checkIndex_8 rfl ?_
  exact c_vret' S hr hlk hH hS z dJ6_checkIndex_9
/-! java/lang/AbstractStringBuilder.charAt(I)C -/
def fJ14_charAt (K : KE) (h : HS) (a0 : Nat) (a1 : Int32) : Option (Int32) :=
  (gI K h (some a0) 21 1).bind fun v1 =>
  (gR K h (some a0) 21 0).bind fun v2 =>
  (gI K h (some a0) 21 3).bind fun v3 =>
  (cN K h v2 3).bind fun v4 =>
  (fJ12_min K h v3 (v4 >>> (v1 &&& 31))).bind fun x5 =>
  (fJ6_checkIndex K h a1 x5).bind fun x6 =>
  if v1 = 0 then
    (cI K h v2 3 a1).bind fun v8 =>
    (cr (((v8 &&& (255 : Int32)).toUInt32 % 65536).toInt32)).bind fun g9 =>
    some (((v8 &&& (255 : Int32)).toUInt32 % 65536).toInt32)
  else
  none
set_option maxHeartbeats 4000000 in
theorem metJ14_charAt {l : Launch} {A : Nat → Prop} {D : va_G} {ac : Nat → ClassId} {K : KE} {h : HS} {a0 : Nat} {a1 : Int32} {x : Int32} (z : fJ14_charAt K h a0 a1 = some x) : Met l yJ14_charAt (ws_ yJ14_charAt cJ14_charAt 5 (some .char)) (rmC 3 43 K h) (cP A D ac K h [va_rf (some a0), .int a1]) (cQi A D ac K (h, x)) (K.2.2.1 - h.2.1) (K.2.2.2 - h.2.2) A := by
  refine c_entry (plainFor_of_name (by decide)) (Nat.le_of_ble_eq_true rfl) ?_
  intro p e s m below meth c S hr hlk hnm hG hRM hH hS ls hl
  replace hl : lv_has ls 5 [(0, va_rf (some a0)), (1, .int a1)] := hl
  replace hnm : meth.name = "charAt" := hnm
  replace S : CallFix p m c cJ14_charAt 5 s _ lw_all RJ14 := S
  obtain ⟨hx, hb, hml, hown, hts⟩ := id S
  unfold fJ14_charAt at z
  refine c_aload_n hx hb dJ14_charAt_0 rfl (lv_at hl 0 rfl) ?_
  replace z := ob z
  obtain ⟨v1, zv1, z⟩ := z
  obtain ⟨fsv1, yv1, zv1⟩ := gI_e zv1
  refine c_get S hG hH (ci := 21) (k := 1) rfl in_J15 (Nat.le_of_ble_eq_true rfl) q1019 (fun _ y => y) yv1 zv1 dJ14_charAt_1 ?_
  refine lv_istore_n (lv' := [(2, .int v1), (0, va_rf (some a0)), (1, .int a1)]) hx hb dJ14_charAt_4 rfl hl (by decide) rfl (fun ls hl => ?_)
  refine c_aload_n hx hb dJ14_charAt_5 rfl (lv_at hl 1 rfl) ?_
  replace z := ob z
  obtain ⟨v2, zv2, z⟩ := z
  obtain ⟨fsv2, yv2, zv2⟩ := gR_e zv2
  refine c_get S hG hH (ci := 21) (k := 0) rfl in_J15 (Nat.le_of_ble_eq_true rfl) q1018 (fun _ y => y) yv2 zv2 dJ14_charAt_6 ?_
  refine c_astore_n (lv' := [(3, va_rf v2), (2, .int v1), (0, va_rf (some a0)), (1, .int a1)]) hx hb dJ14_charAt_9 rfl hl (by decide) rfl (fun ls hl => ?_)
  refine c_aload_n hx hb dJ14_charAt_10 rfl (lv_at hl 2 rfl) ?_
  replace z := ob z
  obtain ⟨v3, zv3, z⟩ := z
  obtain ⟨fsv3, yv3, zv3⟩ := gI_e zv3
  refine c_get S hG hH (ci := 21) (k := 3) rfl in_J15 (Nat.le_of_ble_eq_true rfl) q1020 (fun _ y => y) yv3 zv3 dJ14_charAt_11 ?_
  refine c_aload_n hx hb dJ14_charAt_14 rfl (lv_at hl 0 rfl) ?_
  replace z := ob z
  obtain ⟨v4, zv4, z⟩ := z
  refine c_alen S hG hH 3 rfl zv4 dJ14_charAt_15 ?_
  refine lv_iload_n hx hb dJ14_charAt_16 rfl (lv_at hl 1 rfl) ?_
  refine lv_ishr hx hb dJ14_charAt_17 ?_
  replace z := ob z
  obtain ⟨x5, zx5, z⟩ := z
  refine c_calli hH hS hRM (fun _ _ f1 f2 => va_runS (As := [.int v3, .int (v4 >>> (v1 &&& 31))]) (rest := []) S (metJ12_min zx5) (va_cwS 2 hts (lw_S q1452 q898 q187 q899) rfl rfl rfl (by decide +kernel) ⟨(Nat.le_of_ble_eq_true rfl), (Nat.le_of_ble_eq_true rfl)⟩) (c_pre hG hH hS) rfl rfl hl.1 rfl (lv_room (Nat.le_of_ble_eq_true rfl)) dJ14_charAt_18 ⟨f1, f2⟩) (fun H locs hH hS => ?_)
  refine lv_istore (lv' := [(4, .int x5), (3, va_rf v2), (2, .int v1), (0, va_rf (some a0)), (1, .int a1)]) hx hb dJ14_charAt_21 hl (by decide) (by simp [List.filter, ct_r, ct_i, ct_l]) (fun ls hl => ?_)
  refine lv_iload_n hx hb dJ14_charAt_23 rfl (lv_at hl 4 rfl) ?_
  refine lv_iload hx hb dJ14_charAt_24 (lv_at hl 0 rfl) ?_
  replace z := ob z
  obtain ⟨x6, zx6, z⟩ := z
  refine c_callv hH hS hRM (fun _ _ f1 f2 => va_runS (As := [.int a1, .int x5]) (rest := []) S (metJ6_checkIndex zx6) (va_cwS 2 hts (lw_S q1453 q1175 q180 q1176) rfl rfl rfl (by decide +kernel) ⟨(Nat.le_of_ble_eq_true rfl), (Nat.le_of_ble_eq_true rfl)⟩) (c_pre hG hH hS) rfl rfl hl.1 rfl (lv_room (Nat.le_of_ble_eq_true rfl)) dJ14_charAt_26 ⟨f1, f2⟩) (fun H locs hH hS => ?_)
  refine lv_iload_n hx hb dJ14_charAt_29 rfl (lv_at hl 2 rfl) ?_
  refine lv_if_ne (tgt := 42) hx hb dJ14_charAt_30 (by decide) (fun c7 => ?_) (fun c7 => ?_)
  · replace z := ie c7 z
    refine c_aload_n hx hb dJ14_charAt_42 rfl (lv_at hl 1 rfl) ?_
    refine lv_iload_n hx hb dJ14_charAt_43 rfl (lv_at hl 4 rfl) ?_
    cases z
  replace z := it c7 z
  refine c_aload_n hx hb dJ14_charAt_33 rfl (lv_at hl 1 rfl) ?_
  refine lv_iload_n hx hb dJ14_charAt_34 rfl (lv_at hl 4 rfl) ?_
  replace z := ob z
  obtain ⟨v8, zv8, z⟩ := z
  refine c_bald S hG hH zv8 dJ14_charAt_35 ?_
  refine lv_sipush (v := (255 : Int32)) hx hb dJ14_charAt_36 (by decide) ?_
  refine lv_iand hx hb dJ14_charAt_39 ?_
  refine lv_i2c (v := ((v8 &&& (255 : Int32)).toUInt32 % 65536).toInt32) hx hb dJ14_charAt_40 rfl ?_
  replace z := ob z
  obtain ⟨g9, zg9, z⟩ := z
  replace zg9 := cr_e zg9
  exact c_iret' S hr hlk zg9 hH hS z dJ14_charAt_41
/-! java/lang/StringBuilder.<init>()V -/
def fJ15_init (K : KE) (h : HS) (a0 : Nat) : Option (HS) :=
  (fJ14_init K h a0 (16 : Int32)).bind fun x1 =>
  some x1
set_option maxHeartbeats 4000000 in
theorem metJ15_init {l : Launch} {A : Nat → Prop} {D : va_G} {ac : Nat → ClassId} {K : KE} {h : HS} {a0 : Nat} {x : HS} (z : fJ15_init K h a0 = some x) : Met l yJ15_init (ws_ yJ15_init cJ15_init 1 (none)) (rmC 3 61 K h) (cP A D ac K h [va_rf (some a0)]) (cQv A D ac K x) (K.2.2.1 - h.2.1) (K.2.2.2 - h.2.2) A := by
  refine c_entry (plainFor_of_name (by decide)) (Nat.le_of_ble_eq_true rfl) ?_
  intro p e s m below meth c S hr hlk hnm hG hRM hH hS ls hl
  replace hl : lv_has ls 1 [(0, va_rf (some a0))] := hl
  replace hnm : meth.name = "<init>" := hnm
  replace S : CallFix p m c cJ15_init 1 s _ lw_all RJ15 := S
  obtain ⟨hx, hb, hml, hown, hts⟩ := id S
  unfold fJ15_init at z
  refine c_aload_n hx hb dJ15_init_0 rfl (lv_at hl 0 rfl) ?_
  refine lv_bipush (v := (16 : Int32)) hx hb dJ15_init_1 (by decide) ?_
  replace z := ob z
  obtain ⟨x1, zx1, z⟩ := z
  refine c_callv hH hS hRM (fun _ _ f1 f2 => va_runI (b := a0) (As := [.int (16 : Int32)]) (rest := []) S (metJ14_init zx1) (cwI 1 hts (lw_meth q1014) rfl rfl rfl (hts _ q194) (hts _ q1012) (hts _ q1013) rfl (by decide +kernel) ⟨(Nat.le_of_ble_eq_true rfl), (Nat.le_of_ble_eq_true rfl)⟩) (c_pre hG hH hS) rfl rfl hl.1 rfl (lv_room (Nat.le_of_ble_eq_true rfl)) dJ15_init_3 ⟨f1, f2⟩) (fun H locs hH hS => ?_)
  exact c_vret S hr hlk hH hS z dJ15_init_6
/-! java/lang/StringBuilder.append(C)Ljava/lang/StringBuilder; -/
def fJ15_append (K : KE) (h : HS) (a0 : Nat) (a1 : Int32) : Option (HS × Option Nat) :=
  (rcv K h (some a0) 21).bind fun b1 =>
  (fJ14_append K h b1 a1).bind fun x2 =>
  some (x2.1, (some a0))
set_option maxHeartbeats 4000000 in
theorem metJ15_append {l : Launch} {A : Nat → Prop} {D : va_G} {ac : Nat → ClassId} {K : KE} {h : HS} {a0 : Nat} {a1 : Int32} {x : HS × Option Nat} (z : fJ15_append K h a0 a1 = some x) : Met l yJ15_append (ws_ yJ15_append cJ15_append 2 (some (.object "java/lang/StringBuilder"))) (rmC 6 125 K h) (cP A D ac K h [va_rf (some a0), .int a1]) (cQq A D ac K x) (K.2.2.1 - h.2.1) (K.2.2.2 - h.2.2) A := by
  refine c_entry (plainFor_of_name (by decide)) (Nat.le_of_ble_eq_true rfl) ?_
  intro p e s m below meth c S hr hlk hnm hG hRM hH hS ls hl
  replace hl : lv_has ls 2 [(0, va_rf (some a0)), (1, .int a1)] := hl
  replace hnm : meth.name = "append" := hnm
  replace S : CallFix p m c cJ15_append 2 s _ lw_all RJ15 := S
  obtain ⟨hx, hb, hml, hown, hts⟩ := id S
  unfold fJ15_append at z
  refine c_aload_n hx hb dJ15_append_0 rfl (lv_at hl 0 rfl) ?_
  refine lv_iload_n hx hb dJ15_append_1 rfl (lv_at hl 1 rfl) ?_
  replace z := ob z
  obtain ⟨b1, zb1, z⟩ := z
  obtain ⟨yb1, zb1⟩ := rcv_e zb1
  replace z := ob z
  obtain ⟨x2, zx2, z⟩ := z
  refine c_callq hH hS hRM (fun _ _ f1 f2 => va_runSU (b := b1) (As := [.int a1]) (rest := []) (hG.1.1 21 _ rfl).2 S (metJ14_append zx2) (va_cwSU 1 hts (lw_app (lw_l5 q1127 q2629 q1029 q1128 q194) (lw_meth q1129)) rfl rfl rfl (by decide +kernel) ⟨(Nat.le_of_ble_eq_true rfl), (Nat.le_of_ble_eq_true rfl)⟩) (c_preV hG hH hS (ci := 21) rfl zb1) rfl rfl hl.1 (by rw [yb1]; rfl) (lv_room (Nat.le_of_ble_eq_true rfl)) dJ15_append_2 ⟨f1, f2⟩) (fun H locs hH hS => ?_)
  refine lv_pop hx hb dJ15_append_5 (ct_r _) ?_
  refine c_aload_n hx hb dJ15_append_6 rfl (lv_at hl 0 rfl) ?_
  exact c_aret S hr (Or.inl ⟨_, rfl⟩) hlk hH hS z dJ15_append_7

set_option maxRecDepth 100000
/-! on()Z -/
abbrev rmX6_on : Room := { frames := 5, cells := 0, slots := 0, locals := 87 }
def fX6_on_112 (k55 : MS → Int32 → Option (MS × Int32)) : Nat → MS → Int32 → Int32 → Int32 → Option (MS × Int32)
  | 0, _, _, _, _ => none
  | n + 1, σ, a2, a3, a4 =>
    (fX6_filmMany σ).bind fun x1 =>
    if x1 ≤ a4 then
      k55 σ (a2 + (1 : Int32))
    else
    (fX6_seenAt σ a2 a4).bind fun x3 =>
    (fX6_kindMany σ).bind fun x4 =>
    (aI σ 0 ((a3 + ((2 : Int32) * x4)) + a4)).bind fun v5 =>
    (tI σ 54 x3 v5).bind fun σ6 =>
    fX6_on_112 k55 n σ6 a2 a3 (a4 + (1 : Int32))
def fX6_on_72 (k55 : MS → Int32 → Option (MS × Int32)) : Nat → MS → Int32 → Int32 → Int32 → Option (MS × Int32)
  | 0, _, _, _, _ => none
  | n + 1, σ, a2, a3, a4 =>
    (fX6_kindMany σ).bind fun x1 =>
    if x1 ≤ a4 then
      fX6_on_112 k55 FU σ a2 a3 (0 : Int32)
    else
    (fX6_tasteAt σ a2 a4).bind fun x3 =>
    (fX6_twoAt σ (a3 + ((2 : Int32) * a4))).bind fun x4 =>
    (tI σ 54 x3 x4).bind fun σ5 =>
    fX6_on_72 k55 n σ5 a2 a3 (a4 + (1 : Int32))
def fX6_on_174 : Nat → MS → Int32 → Int32 → Option (MS × Int32)
  | 0, _, _, _ => none
  | n + 1, σ, a2, a3 =>
    (fX6_personMany σ).bind fun x1 =>
    if x1 ≤ a3 then
      (tI σ 54 (96 : Int32) (0 : Int32)).bind fun σ3 =>
      some ((sI σ3 68 (0 : Int32)), (1 : Int32))
    else
    (aI σ 0 (a2 + ((3 : Int32) * a3))).bind fun v4 =>
    (tI σ 54 ((86 : Int32) + ((2 : Int32) * a3)) v4).bind fun σ5 =>
    (fX6_twoAt σ5 ((a2 + (1 : Int32)) + ((3 : Int32) * a3))).bind fun x6 =>
    (tI σ5 54 (((86 : Int32) + ((2 : Int32) * a3)) + (1 : Int32)) x6).bind fun σ7 =>
    fX6_on_174 n σ7 a2 (a3 + (1 : Int32))
def fX6_on_55 : Nat → MS → Int32 → Option (MS × Int32)
  | 0, _, _ => none
  | n + 1, σ, a2 =>
    (fX6_personMany σ).bind fun x1 =>
    if x1 < a2 then
      (fX6_personMany σ).bind fun x3 =>
      (fX6_profileFrom σ ((1 : Int32) + x3)).bind fun x4 =>
      fX6_on_174 FU σ x4 (0 : Int32)
    else
    (fX6_profileFrom σ a2).bind fun x5 =>
    fX6_on_72 (fun σ' b2 => fX6_on_55 n σ' b2) FU σ a2 x5 (0 : Int32)
def fX6_on (σ : MS) : Option (MS × Int32) :=
  (fX6_isImage (sI σ 1 (0 : Int32)) (σ.1 1)).bind fun x1 =>
  if x1 = 0 then
    (aI (sI σ 1 (0 : Int32)) 9 (5 : Int32)).bind fun v7 =>
    (tI (sI σ 1 (0 : Int32)) 9 (5 : Int32) (v7 + (1 : Int32))).bind fun σ8 =>
    some (σ8, (0 : Int32))
  else
  (fX6_twoAt (sI σ 1 (0 : Int32)) (0 : Int32)).bind fun x3 =>
  (tI (sI σ 1 (0 : Int32)) 54 (0 : Int32) x3).bind fun σ4 =>
  (aI σ4 0 (2 : Int32)).bind fun v5 =>
  (tI σ4 54 (1 : Int32) v5).bind fun σ6 =>
  fX6_on_55 FU σ6 (0 : Int32)
set_option maxHeartbeats 4000000 in
theorem wX6_on_112 {p : Program} {l : Launch} {e : Env} {s : State} {m : MethodId} {args : Array Value} {below : List Frame} {meth : Method} {c : Code} {G : mG} {b : Nat} (S : CallFix p m c cX6_on 5 s args lw_all RX6) (hr : meth.sig.returnType = some .boolean) (hlk : meth.locks = false) (hK : mK G s) {x : MS × Int32} {k55 : MS → Int32 → Option (MS × Int32)} (hk55 : ∀ σ a2, k55 σ a2 = some x → mGo p l e rmX6_on s m args below meth c G b (MQ below (mQi G b x) args s 0 0 (mB b)) 5 55 [(0, .ref b), (2, .int a2)] [] σ) : ∀ (n : Nat) (σ : MS) (a2 : Int32) (a3 : Int32) (a4 : Int32), fX6_on_112 k55 n σ a2 a3 a4 = some x → mGo p l e rmX6_on s m args below meth c G b (MQ below (mQi G b x) args s 0 0 (mB b)) 5 112 [(0, .ref b), (2, .int a2), (3, .int a3), (4, .int a4)] [] σ := by
  obtain ⟨hx, hb, hml, hown, hts⟩ := id S
  intro n
  induction n with
  | zero => intro σ a2 a3 a4 h; cases h
  | succ n ih =>
    intro σ a2 a3 a4 h H locs hM hS ls hl
    rw [fX6_on_112] at h
    refine lv_iload hx hb dX6_on_112 (lv_at hl 3 rfl) ?_
    refine lv_aload_n hx hb dX6_on_114 rfl (lv_at hl 0 rfl) ?_
    replace h := ob h
    obtain ⟨x1, hx1, h⟩ := h
    refine kX6_filmMany S hK hM hS hx1 ⟨Nat.le_of_ble_eq_true rfl, Nat.le_of_ble_eq_true rfl⟩ hl.1 (Nat.le_of_ble_eq_true rfl) dX6_on_115 (fun H locs hM hS => ?_)
    refine lv_icmp_ge (tgt := 155) hx hb dX6_on_118 (by decide) (fun c2 => ?_) (fun c2 => ?_)
    · replace h := it c2 h
      refine lv_iinc (v := (a2 + (1 : Int32))) (lv' := [(2, .int (a2 + (1 : Int32))), (0, .ref b), (3, .int a3), (4, .int a4)]) hx hb dX6_on_155 hl (k := 1) rfl rfl (by decide) rfl (fun ls hl => ?_)
      refine lv_goto (tgt := 55) hx hb dX6_on_158 (by decide) ?_
      exact hk55 σ (a2 + (1 : Int32)) h _ _ hM hS _ (lv_sub hl [1, 0] rfl)
    replace h := ie c2 h
    refine lv_aload_n hx hb dX6_on_121 rfl (lv_at hl 0 rfl) ?_
    refine m_get S hK hM 54 (Nat.le_of_ble_eq_true rfl) q1786 (v := .ref (ma b 54)) rfl dX6_on_122 ?_
    refine lv_aload_n hx hb dX6_on_125 rfl (lv_at hl 0 rfl) ?_
    refine lv_iload_n hx hb dX6_on_126 rfl (lv_at hl 1 rfl) ?_
    refine lv_iload hx hb dX6_on_127 (lv_at hl 3 rfl) ?_
    replace h := ob h
    obtain ⟨x3, hx3, h⟩ := h
    refine kX6_seenAt S hK hM hS hx3 ⟨Nat.le_of_ble_eq_true rfl, Nat.le_of_ble_eq_true rfl⟩ hl.1 (Nat.le_of_ble_eq_true rfl) dX6_on_129 (fun H locs hM hS => ?_)
    refine lv_aload_n hx hb dX6_on_132 rfl (lv_at hl 0 rfl) ?_
    refine m_get S hK hM 0 (Nat.le_of_ble_eq_true rfl) q1732 (v := .ref (ma b 0)) rfl dX6_on_133 ?_
    refine lv_iload_n hx hb dX6_on_136 rfl (lv_at hl 2 rfl) ?_
    refine lv_iconst (v := (2 : Int32)) hx hb dX6_on_137 (by decide) ?_
    refine lv_aload_n hx hb dX6_on_138 rfl (lv_at hl 0 rfl) ?_
    replace h := ob h
    obtain ⟨x4, hx4, h⟩ := h
    refine kX6_kindMany S hK hM hS hx4 ⟨Nat.le_of_ble_eq_true rfl, Nat.le_of_ble_eq_true rfl⟩ hl.1 (Nat.le_of_ble_eq_true rfl) dX6_on_139 (fun H locs hM hS => ?_)
    refine lv_imul hx hb dX6_on_142 ?_
    refine lv_iadd hx hb dX6_on_143 ?_
    refine lv_iload hx hb dX6_on_144 (lv_at hl 3 rfl) ?_
    refine lv_iadd hx hb dX6_on_146 ?_
    replace h := ob h
    obtain ⟨v5, hv5, h⟩ := h
    refine m_iald S hK hM 0 rfl hv5 dX6_on_147 ?_
    replace h := ob h
    obtain ⟨σ6, hσ6, h⟩ := h
    refine m_iast S hK hM hS 54 rfl hσ6 dX6_on_148 (fun H locs hM hS => ?_)
    refine lv_iinc (v := (a4 + (1 : Int32))) (lv' := [(4, .int (a4 + (1 : Int32))), (0, .ref b), (2, .int a2), (3, .int a3)]) hx hb dX6_on_149 hl (k := 3) rfl rfl (by decide) rfl (fun ls hl => ?_)
    refine lv_goto (tgt := 112) hx hb dX6_on_152 (by decide) ?_
    exact ih σ6 a2 a3 (a4 + (1 : Int32)) h _ _ hM hS _ (lv_sub hl [1, 2, 3, 0] rfl)
set_option maxHeartbeats 4000000 in
theorem wX6_on_72 {p : Program} {l : Launch} {e : Env} {s : State} {m : MethodId} {args : Array Value} {below : List Frame} {meth : Method} {c : Code} {G : mG} {b : Nat} (S : CallFix p m c cX6_on 5 s args lw_all RX6) (hr : meth.sig.returnType = some .boolean) (hlk : meth.locks = false) (hK : mK G s) {x : MS × Int32} {k55 : MS → Int32 → Option (MS × Int32)} (hk55 : ∀ σ a2, k55 σ a2 = some x → mGo p l e rmX6_on s m args below meth c G b (MQ below (mQi G b x) args s 0 0 (mB b)) 5 55 [(0, .ref b), (2, .int a2)] [] σ) : ∀ (n : Nat) (σ : MS) (a2 : Int32) (a3 : Int32) (a4 : Int32), fX6_on_72 k55 n σ a2 a3 a4 = some x → mGo p l e rmX6_on s m args below meth c G b (MQ below (mQi G b x) args s 0 0 (mB b)) 5 72 [(0, .ref b), (2, .int a2), (3, .int a3), (4, .int a4)] [] σ := by
  obtain ⟨hx, hb, hml, hown, hts⟩ := id S
  intro n
  induction n with
  | zero => intro σ a2 a3 a4 h; cases h
  | succ n ih =>
    intro σ a2 a3 a4 h H locs hM hS ls hl
    rw [fX6_on_72] at h
    refine lv_iload hx hb dX6_on_72 (lv_at hl 3 rfl) ?_
    refine lv_aload_n hx hb dX6_on_74 rfl (lv_at hl 0 rfl) ?_
    replace h := ob h
    obtain ⟨x1, hx1, h⟩ := h
    refine kX6_kindMany S hK hM hS hx1 ⟨Nat.le_of_ble_eq_true rfl, Nat.le_of_ble_eq_true rfl⟩ hl.1 (Nat.le_of_ble_eq_true rfl) dX6_on_75 (fun H locs hM hS => ?_)
    refine lv_icmp_ge (tgt := 109) hx hb dX6_on_78 (by decide) (fun c2 => ?_) (fun c2 => ?_)
    · replace h := it c2 h
      refine lv_iconst (v := (0 : Int32)) hx hb dX6_on_109 (by decide) ?_
      refine lv_istore (lv' := [(4, .int (0 : Int32)), (0, .ref b), (2, .int a2), (3, .int a3)]) hx hb dX6_on_110 hl (by decide) rfl (fun ls hl => ?_)
      exact wX6_on_112 S hr hlk hK hk55 FU σ a2 a3 (0 : Int32) h _ _ hM hS _ (lv_sub hl [1, 2, 3, 0] rfl)
    replace h := ie c2 h
    refine lv_aload_n hx hb dX6_on_81 rfl (lv_at hl 0 rfl) ?_
    refine m_get S hK hM 54 (Nat.le_of_ble_eq_true rfl) q1786 (v := .ref (ma b 54)) rfl dX6_on_82 ?_
    refine lv_aload_n hx hb dX6_on_85 rfl (lv_at hl 0 rfl) ?_
    refine lv_iload_n hx hb dX6_on_86 rfl (lv_at hl 1 rfl) ?_
    refine lv_iload hx hb dX6_on_87 (lv_at hl 3 rfl) ?_
    replace h := ob h
    obtain ⟨x3, hx3, h⟩ := h
    refine kX6_tasteAt S hK hM hS hx3 ⟨Nat.le_of_ble_eq_true rfl, Nat.le_of_ble_eq_true rfl⟩ hl.1 (Nat.le_of_ble_eq_true rfl) dX6_on_89 (fun H locs hM hS => ?_)
    refine lv_aload_n hx hb dX6_on_92 rfl (lv_at hl 0 rfl) ?_
    refine lv_iload_n hx hb dX6_on_93 rfl (lv_at hl 2 rfl) ?_
    refine lv_iconst (v := (2 : Int32)) hx hb dX6_on_94 (by decide) ?_
    refine lv_iload hx hb dX6_on_95 (lv_at hl 3 rfl) ?_
    refine lv_imul hx hb dX6_on_97 ?_
    refine lv_iadd hx hb dX6_on_98 ?_
    replace h := ob h
    obtain ⟨x4, hx4, h⟩ := h
    refine kX6_twoAt S hK hM hS hx4 ⟨Nat.le_of_ble_eq_true rfl, Nat.le_of_ble_eq_true rfl⟩ hl.1 (Nat.le_of_ble_eq_true rfl) dX6_on_99 (fun H locs hM hS => ?_)
    replace h := ob h
    obtain ⟨σ5, hσ5, h⟩ := h
    refine m_iast S hK hM hS 54 rfl hσ5 dX6_on_102 (fun H locs hM hS => ?_)
    refine lv_iinc (v := (a4 + (1 : Int32))) (lv' := [(4, .int (a4 + (1 : Int32))), (0, .ref b), (2, .int a2), (3, .int a3)]) hx hb dX6_on_103 hl (k := 3) rfl rfl (by decide) rfl (fun ls hl => ?_)
    refine lv_goto (tgt := 72) hx hb dX6_on_106 (by decide) ?_
    exact ih σ5 a2 a3 (a4 + (1 : Int32)) h _ _ hM hS _ (lv_sub hl [1, 2, 3, 0] rfl)
set_option maxHeartbeats 4000000 in
theorem wX6_on_174 {p : Program} {l : Launch} {e : Env} {s : State} {m : MethodId} {args : Array Value} {below : List Frame} {meth : Method} {c : Code} {G : mG} {b : Nat} (S : CallFix p m c cX6_on 5 s args lw_all RX6) (hr : meth.sig.returnType = some .boolean) (hlk : meth.locks = false) (hK : mK G s) {x : MS × Int32} : ∀ (n : Nat) (σ : MS) (a2 : Int32) (a3 : Int32), fX6_on_174 n σ a2 a3 = some x → mGo p l e rmX6_on s m args below meth c G b (MQ below (mQi G b x) args s 0 0 (mB b)) 5 174 [(0, .ref b), (2, .int a2), (3, .int a3)] [] σ := by
  obtain ⟨hx, hb, hml, hown, hts⟩ := id S
  intro n
  induction n with
  | zero => intro σ a2 a3 h; cases h
  | succ n ih =>
    intro σ a2 a3 h H locs hM hS ls hl
    rw [fX6_on_174] at h
    refine lv_iload_n hx hb dX6_on_174 rfl (lv_at hl 2 rfl) ?_
    refine lv_aload_n hx hb dX6_on_175 rfl (lv_at hl 0 rfl) ?_
    replace h := ob h
    obtain ⟨x1, hx1, h⟩ := h
    refine kX6_personMany S hK hM hS hx1 ⟨Nat.le_of_ble_eq_true rfl, Nat.le_of_ble_eq_true rfl⟩ hl.1 (Nat.le_of_ble_eq_true rfl) dX6_on_176 (fun H locs hM hS => ?_)
    refine lv_icmp_ge (tgt := 233) hx hb dX6_on_179 (by decide) (fun c2 => ?_) (fun c2 => ?_)
    · replace h := it c2 h
      refine lv_aload_n hx hb dX6_on_233 rfl (lv_at hl 0 rfl) ?_
      refine m_get S hK hM 54 (Nat.le_of_ble_eq_true rfl) q1786 (v := .ref (ma b 54)) rfl dX6_on_234 ?_
      refine lv_bipush (v := (96 : Int32)) hx hb dX6_on_237 (by decide) ?_
      refine lv_iconst (v := (0 : Int32)) hx hb dX6_on_239 (by decide) ?_
      replace h := ob h
      obtain ⟨σ3, hσ3, h⟩ := h
      refine m_iast S hK hM hS 54 rfl hσ3 dX6_on_240 (fun H locs hM hS => ?_)
      refine lv_aload_n hx hb dX6_on_241 rfl (lv_at hl 0 rfl) ?_
      refine lv_iconst (v := (0 : Int32)) hx hb dX6_on_242 (by decide) ?_
      refine m_putI S hK hM hS 68 (Nat.le_of_ble_eq_true rfl) rfl q1800 rfl (ty := .int) rfl rfl rfl dX6_on_243 (fun H locs hM hS => ?_)
      refine lv_iconst (v := (1 : Int32)) hx hb dX6_on_246 (by decide) ?_
      exact m_iret S hr hlk rfl hM hS h dX6_on_247
    replace h := ie c2 h
    refine lv_aload_n hx hb dX6_on_182 rfl (lv_at hl 0 rfl) ?_
    refine m_get S hK hM 54 (Nat.le_of_ble_eq_true rfl) q1786 (v := .ref (ma b 54)) rfl dX6_on_183 ?_
    refine lv_bipush (v := (86 : Int32)) hx hb dX6_on_186 (by decide) ?_
    refine lv_iconst (v := (2 : Int32)) hx hb dX6_on_188 (by decide) ?_
    refine lv_iload_n hx hb dX6_on_189 rfl (lv_at hl 2 rfl) ?_
    refine lv_imul hx hb dX6_on_190 ?_
    refine lv_iadd hx hb dX6_on_191 ?_
    refine lv_aload_n hx hb dX6_on_192 rfl (lv_at hl 0 rfl) ?_
    refine m_get S hK hM 0 (Nat.le_of_ble_eq_true rfl) q1732 (v := .ref (ma b 0)) rfl dX6_on_193 ?_
    refine lv_iload_n hx hb dX6_on_196 rfl (lv_at hl 1 rfl) ?_
    refine lv_iconst (v := (3 : Int32)) hx hb dX6_on_197 (by decide) ?_
    refine lv_iload_n hx hb dX6_on_198 rfl (lv_at hl 2 rfl) ?_
    refine lv_imul hx hb dX6_on_199 ?_
    refine lv_iadd hx hb dX6_on_200 ?_
    replace h := ob h
    obtain ⟨v4, hv4, h⟩ := h
    refine m_iald S hK hM 0 rfl hv4 dX6_on_201 ?_
    replace h := ob h
    obtain ⟨σ5, hσ5, h⟩ := h
    refine m_iast S hK hM hS 54 rfl hσ5 dX6_on_202 (fun H locs hM hS => ?_)
    refine lv_aload_n hx hb dX6_on_203 rfl (lv_at hl 0 rfl) ?_
    refine m_get S hK hM 54 (Nat.le_of_ble_eq_true rfl) q1786 (v := .ref (ma b 54)) rfl dX6_on_204 ?_
    refine lv_bipush (v := (86 : Int32)) hx hb dX6_on_207 (by decide) ?_
    refine lv_iconst (v := (2 : Int32)) hx hb dX6_on_209 (by decide) ?_
    refine lv_iload_n hx hb dX6_on_210 rfl (lv_at hl 2 rfl) ?_
    refine lv_imul hx hb dX6_on_211 ?_
    refine lv_iadd hx hb dX6_on_212 ?_
    refine lv_iconst (v := (1 : Int32)) hx hb dX6_on_213 (by decide) ?_
    refine lv_iadd hx hb dX6_on_214 ?_
    refine lv_aload_n hx hb dX6_on_215 rfl (lv_at hl 0 rfl) ?_
    refine lv_iload_n hx hb dX6_on_216 rfl (lv_at hl 1 rfl) ?_
    refine lv_iconst (v := (1 : Int32)) hx hb dX6_on_217 (by decide) ?_
    refine lv_iadd hx hb dX6_on_218 ?_
    refine lv_iconst (v := (3 : Int32)) hx hb dX6_on_219 (by decide) ?_
    refine lv_iload_n hx hb dX6_on_220 rfl (lv_at hl 2 rfl) ?_
    refine lv_imul hx hb dX6_on_221 ?_
    refine lv_iadd hx hb dX6_on_222 ?_
    replace h := ob h
    obtain ⟨x6, hx6, h⟩ := h
    refine kX6_twoAt S hK hM hS hx6 ⟨Nat.le_of_ble_eq_true rfl, Nat.le_of_ble_eq_true rfl⟩ hl.1 (Nat.le_of_ble_eq_true rfl) dX6_on_223 (fun H locs hM hS => ?_)
    replace h := ob h
    obtain ⟨σ7, hσ7, h⟩ := h
    refine m_iast S hK hM hS 54 rfl hσ7 dX6_on_226 (fun H locs hM hS => ?_)
    refine lv_iinc (v := (a3 + (1 : Int32))) (lv' := [(3, .int (a3 + (1 : Int32))), (0, .ref b), (2, .int a2)]) hx hb dX6_on_227 hl (k := 2) rfl rfl (by decide) rfl (fun ls hl => ?_)
    refine lv_goto (tgt := 174) hx hb dX6_on_230 (by decide) ?_
    exact ih σ7 a2 (a3 + (1 : Int32)) h _ _ hM hS _ (lv_sub hl [1, 2, 0] rfl)
set_option maxHeartbeats 4000000 in
theorem wX6_on_55 {p : Program} {l : Launch} {e : Env} {s : State} {m : MethodId} {args : Array Value} {below : List Frame} {meth : Method} {c : Code} {G : mG} {b : Nat} (S : CallFix p m c cX6_on 5 s args lw_all RX6) (hr : meth.sig.returnType = some .boolean) (hlk : meth.locks = false) (hK : mK G s) {x : MS × Int32} : ∀ (n : Nat) (σ : MS) (a2 : Int32), fX6_on_55 n σ a2 = some x → mGo p l e rmX6_on s m args below meth c G b (MQ below (mQi G b x) args s 0 0 (mB b)) 5 55 [(0, .ref b), (2, .int a2)] [] σ := by
  obtain ⟨hx, hb, hml, hown, hts⟩ := id S
  intro n
  induction n with
  | zero => intro σ a2 h; cases h
  | succ n ih =>
    intro σ a2 h H locs hM hS ls hl
    rw [fX6_on_55] at h
    refine lv_iload_n hx hb dX6_on_55 rfl (lv_at hl 1 rfl) ?_
    refine lv_aload_n hx hb dX6_on_56 rfl (lv_at hl 0 rfl) ?_
    replace h := ob h
    obtain ⟨x1, hx1, h⟩ := h
    refine kX6_personMany S hK hM hS hx1 ⟨Nat.le_of_ble_eq_true rfl, Nat.le_of_ble_eq_true rfl⟩ hl.1 (Nat.le_of_ble_eq_true rfl) dX6_on_57 (fun H locs hM hS => ?_)
    refine lv_icmp_gt (tgt := 161) hx hb dX6_on_60 (by decide) (fun c2 => ?_) (fun c2 => ?_)
    rotate_left 1
    · replace h := ie c2 h
      refine lv_aload_n hx hb dX6_on_63 rfl (lv_at hl 0 rfl) ?_
      refine lv_iload_n hx hb dX6_on_64 rfl (lv_at hl 1 rfl) ?_
      replace h := ob h
      obtain ⟨x5, hx5, h⟩ := h
      refine kX6_profileFrom S hK hM hS hx5 ⟨Nat.le_of_ble_eq_true rfl, Nat.le_of_ble_eq_true rfl⟩ hl.1 (Nat.le_of_ble_eq_true rfl) dX6_on_65 (fun H locs hM hS => ?_)
      refine lv_istore_n (lv' := [(3, .int x5), (0, .ref b), (2, .int a2)]) hx hb dX6_on_68 rfl hl (by decide) rfl (fun ls hl => ?_)
      refine lv_iconst (v := (0 : Int32)) hx hb dX6_on_69 (by decide) ?_
      refine lv_istore (lv' := [(4, .int (0 : Int32)), (3, .int x5), (0, .ref b), (2, .int a2)]) hx hb dX6_on_70 hl (by decide) rfl (fun ls hl => ?_)
      exact wX6_on_72 S hr hlk hK ih FU σ a2 x5 (0 : Int32) h _ _ hM hS _ (lv_sub hl [2, 3, 1, 0] rfl)
    replace h := it c2 h
    refine lv_aload_n hx hb dX6_on_161 rfl (lv_at hl 0 rfl) ?_
    refine lv_iconst (v := (1 : Int32)) hx hb dX6_on_162 (by decide) ?_
    refine lv_aload_n hx hb dX6_on_163 rfl (lv_at hl 0 rfl) ?_
    replace h := ob h
    obtain ⟨x3, hx3, h⟩ := h
    refine kX6_personMany S hK hM hS hx3 ⟨Nat.le_of_ble_eq_true rfl, Nat.le_of_ble_eq_true rfl⟩ hl.1 (Nat.le_of_ble_eq_true rfl) dX6_on_164 (fun H locs hM hS => ?_)
    refine lv_iadd hx hb dX6_on_167 ?_
    replace h := ob h
    obtain ⟨x4, hx4, h⟩ := h
    refine kX6_profileFrom S hK hM hS hx4 ⟨Nat.le_of_ble_eq_true rfl, Nat.le_of_ble_eq_true rfl⟩ hl.1 (Nat.le_of_ble_eq_true rfl) dX6_on_168 (fun H locs hM hS => ?_)
    refine lv_istore_n (lv' := [(2, .int x4), (0, .ref b)]) hx hb dX6_on_171 rfl hl (by decide) rfl (fun ls hl => ?_)
    refine lv_iconst (v := (0 : Int32)) hx hb dX6_on_172 (by decide) ?_
    refine lv_istore_n (lv' := [(3, .int (0 : Int32)), (2, .int x4), (0, .ref b)]) hx hb dX6_on_173 rfl hl (by decide) rfl (fun ls hl => ?_)
    exact wX6_on_174 S hr hlk hK FU σ x4 (0 : Int32) h _ _ hM hS _ (lv_sub hl [2, 1, 0] rfl)
set_option maxHeartbeats 4000000 in
theorem metX6_on {l : Launch} {G : mG} {b : Nat} {σ : MS} {x : MS × Int32} (h : fX6_on σ = some x) : Met l yX6_on (ws_ yX6_on cX6_on 5 (some .boolean)) rmX6_on (mP G b σ [.ref b]) (mQi G b x) 0 0 (mB b) := by
  refine m_entry (by decide) rfl (Nat.le_of_ble_eq_true rfl) ?_
  intro p e s m below meth c S hr hlk hK hM hS ls hl
  replace hl : lv_has ls 5 [(0, .ref b)] := hl
  obtain ⟨hx, hb, hml, hown, hts⟩ := id S
  unfold fX6_on at h
  refine lv_aload_n hx hb dX6_on_0 rfl (lv_at hl 0 rfl) ?_
  refine m_get S hK hM 1 (Nat.le_of_ble_eq_true rfl) q1733 (v := .int (σ.1 1)) rfl dX6_on_1 ?_
  refine lv_istore_n (lv' := [(1, .int (σ.1 1)), (0, .ref b)]) hx hb dX6_on_4 rfl hl (by decide) rfl (fun ls hl => ?_)
  refine lv_aload_n hx hb dX6_on_5 rfl (lv_at hl 1 rfl) ?_
  refine lv_iconst (v := (0 : Int32)) hx hb dX6_on_6 (by decide) ?_
  refine m_putI S hK hM hS 1 (Nat.le_of_ble_eq_true rfl) rfl q1733 rfl (ty := .int) rfl rfl rfl dX6_on_7 (fun H locs hM hS => ?_)
  refine lv_aload_n hx hb dX6_on_10 rfl (lv_at hl 1 rfl) ?_
  refine lv_iload_n hx hb dX6_on_11 rfl (lv_at hl 0 rfl) ?_
  replace h := ob h
  obtain ⟨x1, hx1, h⟩ := h
  refine kX6_isImage S hK hM hS hx1 ⟨Nat.le_of_ble_eq_true rfl, Nat.le_of_ble_eq_true rfl⟩ hl.1 (Nat.le_of_ble_eq_true rfl) dX6_on_12 (fun H locs hM hS => ?_)
  refine lv_if_ne (tgt := 30) hx hb dX6_on_15 (by decide) (fun c2 => ?_) (fun c2 => ?_)
  rotate_left 1
  · replace h := it c2 h
    refine lv_aload_n hx hb dX6_on_18 rfl (lv_at hl 1 rfl) ?_
    refine m_get S hK hM 9 (Nat.le_of_ble_eq_true rfl) q1741 (v := .ref (ma b 9)) rfl dX6_on_19 ?_
    refine lv_iconst (v := (5 : Int32)) hx hb dX6_on_22 (by decide) ?_
    refine lv_dup2_11 hx hb dX6_on_23 rfl rfl ?_
    replace h := ob h
    obtain ⟨v7, hv7, h⟩ := h
    refine m_iald S hK hM 9 rfl hv7 dX6_on_24 ?_
    refine lv_iconst (v := (1 : Int32)) hx hb dX6_on_25 (by decide) ?_
    refine lv_iadd hx hb dX6_on_26 ?_
    replace h := ob h
    obtain ⟨σ8, hσ8, h⟩ := h
    refine m_iast S hK hM hS 9 rfl hσ8 dX6_on_27 (fun H locs hM hS => ?_)
    refine lv_iconst (v := (0 : Int32)) hx hb dX6_on_28 (by decide) ?_
    exact m_iret S hr hlk rfl hM hS h dX6_on_29
  replace h := ie c2 h
  refine lv_aload_n hx hb dX6_on_30 rfl (lv_at hl 1 rfl) ?_
  refine m_get S hK hM 54 (Nat.le_of_ble_eq_true rfl) q1786 (v := .ref (ma b 54)) rfl dX6_on_31 ?_
  refine lv_iconst (v := (0 : Int32)) hx hb dX6_on_34 (by decide) ?_
  refine lv_aload_n hx hb dX6_on_35 rfl (lv_at hl 1 rfl) ?_
  refine lv_iconst (v := (0 : Int32)) hx hb dX6_on_36 (by decide) ?_
  replace h := ob h
  obtain ⟨x3, hx3, h⟩ := h
  refine kX6_twoAt S hK hM hS hx3 ⟨Nat.le_of_ble_eq_true rfl, Nat.le_of_ble_eq_true rfl⟩ hl.1 (Nat.le_of_ble_eq_true rfl) dX6_on_37 (fun H locs hM hS => ?_)
  replace h := ob h
  obtain ⟨σ4, hσ4, h⟩ := h
  refine m_iast S hK hM hS 54 rfl hσ4 dX6_on_40 (fun H locs hM hS => ?_)
  refine lv_aload_n hx hb dX6_on_41 rfl (lv_at hl 1 rfl) ?_
  refine m_get S hK hM 54 (Nat.le_of_ble_eq_true rfl) q1786 (v := .ref (ma b 54)) rfl dX6_on_42 ?_
  refine lv_iconst (v := (1 : Int32)) hx hb dX6_on_45 (by decide) ?_
  refine lv_aload_n hx hb dX6_on_46 rfl (lv_at hl 1 rfl) ?_
  refine m_get S hK hM 0 (Nat.le_of_ble_eq_true rfl) q1732 (v := .ref (ma b 0)) rfl dX6_on_47 ?_
  refine lv_iconst (v := (2 : Int32)) hx hb dX6_on_50 (by decide) ?_
  replace h := ob h
  obtain ⟨v5, hv5, h⟩ := h
  refine m_iald S hK hM 0 rfl hv5 dX6_on_51 ?_
  replace h := ob h
  obtain ⟨σ6, hσ6, h⟩ := h
  refine m_iast S hK hM hS 54 rfl hσ6 dX6_on_52 (fun H locs hM hS => ?_)
  refine lv_iconst (v := (0 : Int32)) hx hb dX6_on_53 (by decide) ?_
  refine lv_istore_n (lv' := [(2, .int (0 : Int32)), (1, .int (σ.1 1)), (0, .ref b)]) hx hb dX6_on_54 rfl hl (by decide) rfl (fun ls hl => ?_)
  exact wX6_on_55 S hr hlk hK FU σ6 (0 : Int32) h _ _ hM hS _ (lv_sub hl [2, 0] rfl)
/-! status(I)I -/
abbrev rmX6_status : Room := { frames := 2, cells := 0, slots := 0, locals := 25 }
def fX6_status (σ : MS) (a1 : Int32) : Option (Int32) :=
  (fX6_isIn σ a1.toInt64 (0 : Int64) (5 : Int64)).bind fun x1 =>
  if x1 = 0 then
    some (-1 : Int32)
  else
  (aI σ 9 a1).bind fun v3 =>
  some v3
set_option maxHeartbeats 4000000 in
theorem metX6_status {l : Launch} {G : mG} {b : Nat} {σ : MS} {a1 : Int32} {x : Int32} (h : fX6_status σ a1 = some x) : Met l yX6_status (ws_ yX6_status cX6_status 2 (some .int)) rmX6_status (mP G b σ [.ref b, .int a1]) (mQi G b (σ, x)) 0 0 (mB b) := by
  refine m_entry (by decide) rfl (Nat.le_of_ble_eq_true rfl) ?_
  intro p e s m below meth c S hr hlk hK hM hS ls hl
  replace hl : lv_has ls 2 [(0, .ref b), (1, .int a1)] := hl
  obtain ⟨hx, hb, hml, hown, hts⟩ := id S
  unfold fX6_status at h
  refine lv_iload_n hx hb dX6_status_0 rfl (lv_at hl 1 rfl) ?_
  refine lv_i2l (v := a1.toInt64) hx hb dX6_status_1 rfl ?_
  refine lv_lconst (v := (0 : Int64)) hx hb dX6_status_2 (by decide) ?_
  refine lv_ldc2 hx hb hown (hts _ q2182) dX6_status_3 ?_
  replace h := ob h
  obtain ⟨x1, hx1, h⟩ := h
  refine kX6_isIn S hK hM hS hx1 ⟨Nat.le_of_ble_eq_true rfl, Nat.le_of_ble_eq_true rfl⟩ hl.1 (Nat.le_of_ble_eq_true rfl) dX6_status_6 (fun H locs hM hS => ?_)
  refine lv_if_eq (tgt := 21) hx hb dX6_status_9 (by decide) (fun c2 => ?_) (fun c2 => ?_)
  · replace h := it c2 h
    refine lv_iconst (v := (-1 : Int32)) hx hb dX6_status_21 (by decide) ?_
    exact m_iret' S hr hlk rfl hM hS h dX6_status_22
  replace h := ie c2 h
  refine lv_aload_n hx hb dX6_status_12 rfl (lv_at hl 0 rfl) ?_
  refine m_get S hK hM 9 (Nat.le_of_ble_eq_true rfl) q1741 (v := .ref (ma b 9)) rfl dX6_status_13 ?_
  refine lv_iload_n hx hb dX6_status_16 rfl (lv_at hl 1 rfl) ?_
  replace h := ob h
  obtain ⟨v3, hv3, h⟩ := h
  refine m_iald S hK hM 9 rfl hv3 dX6_status_17 ?_
  refine lv_goto (tgt := 22) hx hb dX6_status_18 (by decide) ?_
  exact m_iret' S hr hlk rfl hM hS h dX6_status_22

/-! THE COMPONENT's WORLD: cells by their addresses, as a function. HS: what may be written (cells, how many in the heap, how many slots); KE: what stays (constant cells; addresses of texts and statics; limits) -/
set_option maxRecDepth 100000
def TX19 : u_T := fun _ => ("FourOnOne$All", "", "", false)
abbrev CL : List vw_C := [(RX0, TX0, 22), (RX1, TX1, 12), (RX2, TX2, 8), (RX3, TX3, 8), (RX4, TX4, 1), (RX5, TX5, 11), (RX7, TX7, 1), (RX8, TX8, 3), (RX9, TX9, 4), (RX11, TX11, 2), (RX12, TX12, 3), (RX13, TX13, 1), (RX14, TX14, 1), (RX15, TX15, 3), (RX17, TX17, 2), (RX18, TX18, 1), (RX19, TX19, 0), (RX20, TX20, 3), (RX21, TX21, 5), (RJ2, TJ2, 3), (RJ6, TJ6, 4), (RJ15, TJ15, 4), (RX6, TX6, 103)]
/-- array classes by tags -/
abbrev TY (ac : Nat → ClassId) : List (ClassId × FieldType) := [(ac 0, .int), (ac 1, .long), (ac 2, .char), (ac 3, .byte), (ac 4, .boolean), (ac 5, .object "java/lang/Object"), (ac 6, .object "java/lang/String"), (ac 7, .object "FourOnOne$State"), (ac 8, .array .int), (ac 9, .array .long)]
abbrev HE : Type := (Nat × vp_A) ⊕ (Nat × List Value)
abbrev KE : Type := (Nat → Option HE) × (Nat → Option Nat) × Nat × Nat
abbrev HS : Type := (Nat → Option HE) × Nat × Nat
def rd (K : KE) (h : HS) (a : Nat) : Option HE := match h.1 a with
  | some e => some e
  | none => K.1 a
def toE (ac : Nat → ClassId) (e : HE) : va_E := match e with
  | .inl q => .inl (ac q.1, q.2)
  | .inr o => .inr o
def hsum (H : Heap) : Nat := (H.toList.map (fun c => c.slots.size)).sum
/-- arrays of arrays -/
def AOa (ty : FieldType) (U : State) : Prop := (Cond.arrayOver (.array ty)).before #[] U = true
theorem AOa.moved {ty : FieldType} {u U : State} (hvm : u.vm.Alike U.vm) (h : AOa ty u) : AOa ty U := by
  have h2 : (Cond.arrayOver (.array ty)).before #[] (u.setVm U.vm) = true := by rw [Cond.arrayOver_setVmC hvm]; exact h
  unfold AOa
  simp only [Cond.before, Cond.holds, Cond.value] at h2 ⊢
  exact h2
abbrev ySB1 : MethodName := ⟨"java/lang/AbstractStringBuilder", "ensureCapacityInternal", "(I)V"⟩
abbrev ySB2 : MethodName := ⟨"java/lang/AbstractStringBuilder", "newCapacity", "(I)I"⟩
/-- private methods of a superclass, called on a StringBuilder -/
def SP (U : State) : Prop := va_Nw (.selects "java/lang/StringBuilder" ySB1 ySB1) U ∧ va_Nw (.selects "java/lang/StringBuilder" ySB2 ySB2) U
theorem SP.warm {s U : State} (hW : s.WarmedH U.vm) (h : SP s) : SP U := ⟨word_at hW (Or.inl (by first | rfl | simp [Cond.onTables, Cond.keeps, Cond.steady])) h.1, word_at hW (Or.inl (by first | rfl | simp [Cond.onTables, Cond.keeps, Cond.steady])) h.2⟩
theorem SP.same {s U : State} (e : s.vm = U.vm) (h : SP s) : SP U := ⟨va_Nw.same rfl e h.1, va_Nw.same rfl e h.2⟩
theorem sel_priv {C : String} {y y0 : MethodName} {s : State} {args : Array Value} {n : Nat} (hy : y.cls ≠ "java/lang/invoke/MethodHandle" ∧ y.cls ≠ "java/lang/invoke/VarHandle") (hy0 : y0.cls = y.cls) (h0 : (Cond.selects C y0 y0).before args s = true) (h00 : (Cond.instanceMethod y0).before args s = true) (hins : (Cond.instantiable C n).before args s = true) (hpriv : (Cond.privateMethod y).before args s = true) (hinst : (Cond.instanceMethod y).before args s = true) : (Cond.selects C y y).before args s = true := by
  obtain ⟨c, k, hc, hk, -, hniab, -, -⟩ := Cond.instantiable_spec hins
  obtain ⟨mk, methM, hnamed, hmethM, -, -⟩ := Cond.instanceMethod_spec hinst
  obtain ⟨mk0, methM0, hnamed0, hmethM0, -, -⟩ := Cond.instanceMethod_spec h00
  have hfound : s.methodFound? y.cls y.name y.desc = some mk := State.methodFound?_of_named hnamed hy
  have hfound0 : s.methodFound? y0.cls y0.name y0.desc = some mk0 := State.methodFound?_of_named hnamed0 (by rw [hy0]; exact hy)
  have hcls : mk0.cls = mk.cls := by
    have e0 := findClass_of_methodNamed hnamed0
    rw [hy0] at e0
    exact Option.some.inj (e0.symm.trans (findClass_of_methodNamed hnamed))
  have hsel : selectMethod {} s.vm c mk = .method mk := selectMethod_private hmethM (Cond.privateMethod_at hpriv mk methM hnamed hmethM)
  simp only [Cond.before, Cond.holds, Cond.value, hc, hfound0, hnamed0, hk] at h0
  simp only [Cond.before, Cond.holds, Cond.value, hc, hfound, hnamed, hsel, hk]
  simp at h0 ⊢
  rw [← hcls]
  revert h0
  split <;> simp
def NW (U : State) : Prop := (∀ a i b n d h, Cond.fieldLinkNest a i b n d h ∈ lw_tbl → va_Nw (.fieldLinkNest a i b n d h) U) ∧ (∀ a i x h, Cond.methodLinkNest a i x h ∈ lw_tbl → va_Nw (.methodLinkNest a i x h) U) ∧ (∀ x, Cond.declares x ∈ lw_tbl → va_Nw (.declares x) U) ∧ (∀ C T, Cond.castable C T ∈ lw_tbl → va_Nw (.castable C T) U) ∧ (∀ C, Cond.arrayOver (.object C) ∈ lw_tbl → va_AO C U) ∧ (∀ ty, Cond.arrayOver (.array ty) ∈ lw_tbl → AOa ty U) ∧ SP U
theorem NW.warm {s U : State} (hW : s.WarmedH U.vm) (h : NW s) : NW U := ⟨fun a i b n d g w => va_Nw.warmF hW (h.1 a i b n d g w), fun a i x g w => va_Nw.warmM hW (h.2.1 a i x g w), fun x w => va_Nw.warmD hW (h.2.2.1 x w), fun C T w => va_Nw.warmC hW (h.2.2.2.1 C T w), fun C w => va_AO.moved hW.alike (h.2.2.2.2.1 C w), fun ty w => AOa.moved hW.alike (h.2.2.2.2.2.1 ty w), h.2.2.2.2.2.2.warm hW⟩
theorem NW.same {s U : State} (e : s.vm = U.vm) (h : NW s) : NW U := ⟨fun a i b n d g w => va_Nw.same rfl e (h.1 a i b n d g w), fun a i x g w => va_Nw.same rfl e (h.2.1 a i x g w), fun x w => va_Nw.same rfl e (h.2.2.1 x w), fun C T w => va_Nw.same rfl e (h.2.2.2.1 C T w), fun C w => va_AO.moved (by rw [e]; exact Vm.Alike.refl _) (h.2.2.2.2.1 C w), fun ty w => AOa.moved (by rw [e]; exact Vm.Alike.refl _) (h.2.2.2.2.2.1 ty w), h.2.2.2.2.2.2.same e⟩
theorem NW.of {A : Array Value} {U : State} (ht : ∀ w ∈ lw_tbl, w.before A U = true) : NW U := ⟨fun a i b n d g w => va_Nw.of rfl (ht _ w), fun a i x g w => va_Nw.of rfl (ht _ w), fun x w => va_Nw.of rfl (ht _ w), fun C T w => va_Nw.of rfl (ht _ w), fun C w => ht _ w, fun ty w => ht _ w, va_Nw.of rfl (sel_priv (y0 := ⟨"java/lang/AbstractStringBuilder", "isLatin1", "()Z"⟩) (by decide) rfl (ht _ (lw_all_tbl q1153)) (ht _ (lw_all_tbl q1151)) (ht _ (lw_all_tbl q1008)) (ht _ q1131) (ht _ (lw_all_tbl q1132))), va_Nw.of rfl (sel_priv (y0 := ⟨"java/lang/AbstractStringBuilder", "isLatin1", "()Z"⟩) (by decide) rfl (ht _ (lw_all_tbl q1153)) (ht _ (lw_all_tbl q1151)) (ht _ (lw_all_tbl q1008)) (ht _ q1135) (ht _ (lw_all_tbl q1136)))⟩
/-- what may lie in an array of references: the class of the array (tag t), its component, a thing's class c -/
def AsgC (ac : Nat → ClassId) (t : Nat) (c : ClassId) (U : State) : Prop := ∃ (kA kc kv : Class) (comp : ClassId) (ty : FieldType), U.vm.classes[ac t]? = some kA ∧ kA.kind = .array comp ty ∧ ty.isReference = true ∧ U.vm.classes[comp]? = some kc ∧ U.vm.classes[c]? = some kv ∧ U.vm.assignable c comp = true
theorem AsgC.moved {ac : Nat → ClassId} {t : Nat} {c : ClassId} {u U : State} (hvm : u.vm.Alike U.vm) (h : AsgC ac t c u) : AsgC ac t c U := by
  obtain ⟨kA, kc, kv, comp, ty, h1, h2, h3, h4, h5, h6⟩ := h
  obtain ⟨kA', g1, e1⟩ := hvm.2.2 _ _ h1
  obtain ⟨kc', g4, -⟩ := hvm.2.2 _ _ h4
  obtain ⟨kv', g5, -⟩ := hvm.2.2 _ _ h5
  exact ⟨kA', kc', kv', comp, ty, g1, by rw [e1]; exact h2, h3, g4, g5, by rw [hvm.assignable]; exact h6⟩
/-- which objects (class number), which arrays (tag) may lie in an array of tag t -/
def asgO (t ci : Nat) : Bool := (t == 5) || (t == 7 && ci == 5) || (t == 6 && ci == 20)
def asgA (t u : Nat) : Bool := (t == 8 && u == 0) || (t == 9 && u == 1)
abbrev lSize : MethodName := ⟨"java/util/List", "size", "()I"⟩
abbrev lGet : MethodName := ⟨"java/util/List", "get", "(I)Ljava/lang/Object;"⟩
abbrev lAdd : MethodName := ⟨"java/util/List", "add", "(Ljava/lang/Object;)Z"⟩
def FW (U : State) : Prop := va_Fw RJ2 lSize yJ2_size U ∧ va_Fw RJ2 lGet yJ2_get U ∧ va_Fw RJ2 lAdd yJ2_add U
theorem FW.moved {u U : State} (hvm : u.vm.Alike U.vm) (h : FW u) : FW U := ⟨va_Fw.moved (by decide) hvm h.1, va_Fw.moved (by decide) hvm h.2.1, va_Fw.moved (by decide) hvm h.2.2⟩
/-- texts: number, class, entry, text -/
def txL : List (Nat × String × Nat × String) := [(10, "FourOnOne$Reader", 144, "kind"), (11, "FourOnOne$Reader", 145, "film"), (12, "FourOnOne$Reader", 147, "person"), (13, "FourOnOne$Reader", 149, "likes"), (14, "FourOnOne$Reader", 151, "press"), (15, "FourOnOne$Reader", 177, "at"), (16, "FourOnOne$Reader", 183, "to"), (17, "FourOnOne$Reader", 207, "parts"), (18, "FourOnOne$Reader", 211, "is"), (19, "FourOnOne$Reader", 221, "learns"), (20, "FourOnOne$Reader", 223, "fades"), (21, "FourOnOne$Reader", 225, "may"), (22, "FourOnOne$Reader", 227, "screens"), (23, "FourOnOne$Reader", 229, "price"), (24, "FourOnOne$Reader", 231, "bother"), (25, "FourOnOne$Reader", 233, "strange"), (26, "FourOnOne$Reader", 304, "min"), (27, "FourOnOne$Reader", 306, "max"), (28, "FourOnOne$Reader", 319, "or"), (29, "FourOnOne$Reader", 327, "and"), (30, "FourOnOne$Reader", 329, "not"), (31, "FourOnOne$Reader", 336, "all")]
def TX (K : KE) (U : State) : Prop := ∀ q ∈ txL, ∃ a, K.2.1 q.1 = some a ∧ vk_R q.2.1 q.2.2.1 q.2.2.2 a U
/-- statics: number, class, field, type -/
def szL : List (Nat × String × String × String) := [(0, "FourOnOne", "ASKED", "[Ljava/lang/String;"), (1, "FourOnOne", "LOOKED", "[Ljava/lang/String;"), (2, "FourOnOne", "TOLD_OF", "[Ljava/lang/String;"), (3, "FourOnOne", "OWN", "[Ljava/lang/String;"), (4, "java/lang/Throwable", "UNASSIGNED_STACK", "[Ljava/lang/StackTraceElement;"), (5, "java/lang/Throwable", "SUPPRESSED_SENTINEL", "Ljava/util/List;"), (6, "jdk/internal/util/Preconditions", "SIOOBE_FORMATTER", "Ljava/util/function/BiFunction;")]
def SZ (A : Nat → Prop) (K : KE) (U : State) (H : Heap) : Prop := (∀ q ∈ szL, va_Z q.2.1 q.2.2.1 q.2.2.2 (va_rf (K.2.1 q.1)) A U H) ∧ va_Z "java/lang/String" "COMPACT_STRINGS" "Z" (.int 1) A U H
def MI (K : KE) (U : State) : Prop := ∃ mi, K.2.1 7 = some mi ∧ va_Mi "[Ljava/lang/Object;" mi U
def GK (A : Nat → Prop) (D : va_G) (ac : Nat → ClassId) (K : KE) (U : State) : Prop := va_K D CL (TY ac) U ∧ NW U ∧ (∀ t ci, asgO t ci = true → ci < 22 → AsgC ac t (D.1 ci) U) ∧ (∀ t u, asgA t u = true → AsgC ac t (ac u) U) ∧ FW U ∧ TX K U ∧ MI K U ∧ SZ A K U U.heap
theorem GK.warm {A : Nat → Prop} {D : va_G} {ac : Nat → ClassId} {K : KE} {s U : State} (hW : s.WarmedH U.vm) {locs : List Loc} (hS : va_S A s.heap U.heap locs) (h : GK A D ac K s) : GK A D ac K U := by
  refine ⟨va_K.moved hW.alike h.1, h.2.1.warm hW, fun t ci e g => (h.2.2.1 t ci e g).moved hW.alike, fun t u e => (h.2.2.2.1 t u e).moved hW.alike, h.2.2.2.2.1.moved hW.alike, fun q hq => ?_, ?_, fun q hq => (va_Z.moved hW.alike (h.2.2.2.2.2.2.2.1 q hq)).kept hS.2.1, (va_Z.moved hW.alike h.2.2.2.2.2.2.2.2).kept hS.2.1⟩
  · obtain ⟨a, h1, h2⟩ := h.2.2.2.2.2.1 q hq
    exact ⟨a, h1, h2.warm hW⟩
  · obtain ⟨mi, h1, h2⟩ := h.2.2.2.2.2.2.1
    exact ⟨mi, h1, h2.moved hW.alike⟩
theorem GK.same {A : Nat → Prop} {D : va_G} {ac : Nat → ClassId} {K : KE} {s U : State} (e : s.vm = U.vm) (eh : s.heap = U.heap) (h : GK A D ac K s) : GK A D ac K U := by
  have hv : s.vm.Alike U.vm := by rw [e]; exact Vm.Alike.refl _
  refine ⟨va_K.moved hv h.1, h.2.1.same e, fun t ci e g => (h.2.2.1 t ci e g).moved hv, fun t u e => (h.2.2.2.1 t u e).moved hv, h.2.2.2.2.1.moved hv, fun q hq => ?_, ?_, fun q hq => eh ▸ (va_Z.moved hv (h.2.2.2.2.2.2.2.1 q hq)), eh ▸ (va_Z.moved hv h.2.2.2.2.2.2.2.2)⟩
  · obtain ⟨a, h1, h2⟩ := h.2.2.2.2.2.1 q hq
    exact ⟨a, h1, h2.same e.symm⟩
  · obtain ⟨mi, h1, h2⟩ := h.2.2.2.2.2.2.1
    exact ⟨mi, h1, h2.moved hv⟩
def HR (A : Nat → Prop) (D : va_G) (ac : Nat → ClassId) (K : KE) (h : HS) (H : Heap) : Prop :=
  (∀ a e, h.1 a = some e → A a ∧ va_at D CL (a, toE ac e) H) ∧ (∀ a e, K.1 a = some e → ¬ A a ∧ va_at D CL (a, toE ac e) H) ∧ (∀ q, h.2.1 ≤ q → A q) ∧ H.size = h.2.1 ∧ hsum H = h.2.2 ∧ h.2.1 ≤ K.2.2.1 ∧ h.2.2 ≤ K.2.2.2
theorem HR.cell {A : Nat → Prop} {D : va_G} {ac : Nat → ClassId} {K : KE} {h : HS} {H : Heap} (hH : HR A D ac K h H) {a : Nat} {e : HE} (q : rd K h a = some e) : va_at D CL (a, toE ac e) H := by
  unfold rd at q
  split at q
  · rename_i e' he
    cases q
    exact (hH.1 a e he).2
  · exact (hH.2.1 a e q).2
-- operations
def oV (K : KE) (h : HS) (r : Option Nat) (ci : Nat) : Option (List Value) := match r with
  | none => none
  | some a => match rd K h a with
    | some (.inr o) => if o.1 = ci then some o.2 else none
    | _ => none
def toI (v : Value) : Option Int32 := match v with | .int x => some x | _ => none
def toL (v : Value) : Option Int64 := match v with | .long x => some x | _ => none
def toR (v : Value) : Option (Option Nat) := match v with | .ref a => some (some a) | .null => some none | _ => none
def gI (K : KE) (h : HS) (r : Option Nat) (ci k : Nat) : Option Int32 := (oV K h r ci).bind fun fs => toI (vp_V fs k)
def gL (K : KE) (h : HS) (r : Option Nat) (ci k : Nat) : Option Int64 := (oV K h r ci).bind fun fs => toL (vp_V fs k)
def gR (K : KE) (h : HS) (r : Option Nat) (ci k : Nat) : Option (Option Nat) := (oV K h r ci).bind fun fs => toR (vp_V fs k)
/-- a field is written -/
def pV (h : HS) (r : Option Nat) (ci k : Nat) (v : Value) : Option HS := match r with
  | none => none
  | some a => match h.1 a with
    | some (.inr o) => if o.1 = ci ∧ k < o.2.length then some (va_up h.1 a (some (.inr (ci, o.2.set k v))), h.2) else none
    | _ => none
def arr (K : KE) (h : HS) (r : Option Nat) (t : Nat) : Option vp_A := match r with
  | none => none
  | some a => match rd K h a with
    | some (.inl q) => if q.1 = t then some q.2 else none
    | _ => none
def inx (i : Int32) (n : Nat) : Bool := !(decide (i < 0) || decide (n ≤ i.toNatClampNeg))
def cI (K : KE) (h : HS) (r : Option Nat) (t : Nat) (i : Int32) : Option Int32 := match arr K h r t with
  | some (n, .inl f) => if inx i n = true then some (f i.toNatClampNeg) else none
  | _ => none
def cL (K : KE) (h : HS) (r : Option Nat) (t : Nat) (i : Int32) : Option Int64 := match arr K h r t with
  | some (n, .inr (.inl f)) => if inx i n = true then some (f i.toNatClampNeg) else none
  | _ => none
def cR (K : KE) (h : HS) (r : Option Nat) (t : Nat) (i : Int32) : Option (Option Nat) := match arr K h r t with
  | some (n, .inr (.inr (.inr (.inr f)))) => if inx i n = true then some (f i.toNatClampNeg) else none
  | _ => none
/-- an array's length, by its tag -/
def cN (K : KE) (h : HS) (r : Option Nat) (t : Nat) : Option Int32 := (arr K h r t).map fun q => nI q.1
/-- an array's content is written -/
def wA (h : HS) (r : Option Nat) (t : Nat) (g : Nat → (Nat → Int32) ⊕ (Nat → Int64) ⊕ (Nat → UInt32) ⊕ (Nat → UInt64) ⊕ (Nat → Option Nat) → Option ((Nat → Int32) ⊕ (Nat → Int64) ⊕ (Nat → UInt32) ⊕ (Nat → UInt64) ⊕ (Nat → Option Nat))) : Option HS := match r with
  | none => none
  | some a => match h.1 a with
    | some (.inl q) => if q.1 = t then (match g q.2.1 q.2.2 with | some x => some (va_up h.1 a (some (.inl (t, q.2.1, x))), h.2) | none => none) else none
    | _ => none
def sC (h : HS) (r : Option Nat) (t : Nat) (i : Int32) (v : Int32) : Option HS := wA h r t fun n x => match x with
  | .inl f => if inx i n = true then some (.inl (upd f i.toNatClampNeg v)) else none
  | _ => none
def sCL (h : HS) (r : Option Nat) (t : Nat) (i : Int32) (v : Int64) : Option HS := wA h r t fun n x => match x with
  | .inr (.inl f) => if inx i n = true then some (.inr (.inl (vp_updL f i.toNatClampNeg v))) else none
  | _ => none
/-- what kind of thing lies at an address -/
def okIn (K : KE) (h : HS) (t : Nat) (v : Option Nat) : Bool := match v with
  | none => false
  | some b => match rd K h b with
    | some (.inr o) => asgO t o.1 && decide (o.1 < 22)
    | some (.inl q) => asgA t q.1
    | none => false
def sCR (K : KE) (h : HS) (r : Option Nat) (t : Nat) (i : Int32) (v : Option Nat) : Option HS := if okIn K h t v = true then wA h r t fun n x => match x with
  | .inr (.inr (.inr (.inr f))) => if inx i n = true then some (.inr (.inr (.inr (.inr (va_up f i.toNatClampNeg v))))) else none
  | _ => none else none
/-- a cell more: its address is h.2.1 -/
def alc (K : KE) (h : HS) (e : HE) (n : Nat) : Option HS := if h.2.1 + 1 ≤ K.2.2.1 ∧ h.2.2 + n ≤ K.2.2.2 then some (va_up h.1 h.2.1 (some e), h.2.1 + 1, h.2.2 + n) else none
theorem hsum_push (H : Heap) (c : Cell) : hsum (H.push c) = hsum H + c.slots.size := by
  unfold hsum
  simp
theorem hsum_eq {H H1 : Heap} (z : H1.size = H.size) (hs : ∀ (q : Nat) (c c1 : Cell), H[q]? = some c → H1[q]? = some c1 → c1.slots.size = c.slots.size) : hsum H1 = hsum H := by
  unfold hsum
  congr 1
  apply List.ext_getElem
  · simp [z]
  · intro i h1 h2
    simp only [List.length_map, Array.length_toList] at h1 h2
    simp only [List.getElem_map, Array.getElem_toList]
    exact hs i _ _ (Array.getElem?_eq_getElem h2) (Array.getElem?_eq_getElem h1)
theorem setSlot_size (c : Cell) (i : Nat) (v : Value) : (c.setSlot i v).slots.size = c.slots.size := by
  simp [Cell.setSlot]
theorem hsum_put {H H1 : Heap} {a : Nat} {cell : Cell} {i : Nat} {v : Value} (q1 : H[a]? = some cell) (e : H1[a]? = some (cell.setSlot i v)) (z : H1.size = H.size) (oq : ∀ q : Nat, q ≠ a → H1[q]? = H[q]?) : hsum H1 = hsum H := by
  refine hsum_eq z fun q c c1 h1 h2 => ?_
  by_cases hq : q = a
  · subst hq
    rw [q1] at h1
    rw [e] at h2
    cases h1; cases h2
    exact setSlot_size _ _ _
  · rw [oq q hq, h1] at h2
    cases h2
    rfl

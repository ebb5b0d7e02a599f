/-! the component: contracts, calls, ends -/
set_option maxRecDepth 100000
def cP (A : Nat → Prop) (D : va_G) (ac : Nat → ClassId) (K : KE) (h : HS) (av : List Value) : Array Value → State → Prop := va_Pc av (fun U => HR A D ac K h U.heap ∧ GK A D ac K U)
def cQi (A : Nat → Prop) (D : va_G) (ac : Nat → ClassId) (K : KE) (x : HS × Int32) : Array Value → State → Outcome → State → Prop := va_Qi (fun r (_ : Unit) => r = x.2) (fun _ t => HR A D ac K x.1 t.heap) A
def cQl (A : Nat → Prop) (D : va_G) (ac : Nat → ClassId) (K : KE) (x : HS × Int64) : Array Value → State → Outcome → State → Prop := va_Ql (fun r (_ : Unit) => r = x.2) (fun _ t => HR A D ac K x.1 t.heap) A
def cQq (A : Nat → Prop) (D : va_G) (ac : Nat → ClassId) (K : KE) (x : HS × Option Nat) : Array Value → State → Outcome → State → Prop := va_Qq (fun r (_ : Unit) => r = x.2) (fun _ t => HR A D ac K x.1 t.heap) A
def cQv (A : Nat → Prop) (D : va_G) (ac : Nat → ClassId) (K : KE) (x : HS) : Array Value → State → Outcome → State → Prop := va_Qv (fun (_ : Unit) => True) (fun _ t => HR A D ac K x t.heap) A
abbrev rmC (F L : Nat) (K : KE) (h : HS) : Room := { frames := F, cells := K.2.2.1 - h.2.1, slots := K.2.2.2 - h.2.2, locals := L }
def cGo (p : Program) (l : Launch) (e : Env) (R : Room) (s : State) (m : MethodId) (args : Array Value) (below : List Frame) (meth : Method) (c : Code) (A : Nat → Prop) (D : va_G) (ac : Nat → ClassId) (K : KE) (Q : State → Prop) (nL pc : Nat) (lv : List (Nat × Value)) (st : List Value) (h : HS) : Prop :=
  ∀ (H : Heap) (locs : List Loc), HR A D ac K h H → va_S A s.heap H locs → ∀ ls : Array Slot, lv_has ls nL lv → W p l e R s m args below meth c H locs R.cells R.slots Q (F0 m pc ls st)
/-- the object of class ci that is called -/
def rcv (K : KE) (h : HS) (r : Option Nat) (ci : Nat) : Option Nat := match r with
  | none => none
  | some a => match rd K h a with
    | some (.inr o) => if o.1 = ci then some a else none
    | _ => none
theorem rcv_e {K : KE} {h : HS} {r : Option Nat} {ci b : Nat} (hv : rcv K h r ci = some b) : r = some b ∧ ∃ fs, rd K h b = some (.inr (ci, fs)) := by
  unfold rcv at hv
  split at hv
  · cases hv
  · rename_i a
    split at hv
    · rename_i o ho
      split at hv
      · rename_i hc
        cases hv
        exact ⟨rfl, o.2, by rw [ho, ← hc]⟩
      · cases hv
    · cases hv
/-- a thing that may be null or of class ci -/
def ck (K : KE) (h : HS) (r : Option Nat) (ci : Nat) : Option (Option Nat) := match r with
  | none => some none
  | some a => (rcv K h (some a) ci).map some
section CCALLS
variable {p : Program} {l : Launch} {e : Env} {R : Room} {s : State} {m : MethodId} {args : Array Value} {below : List Frame} {meth : Method} {c : Code} {H H0 : Heap} {locs : List Loc} {cells slots : Nat} {Q : State → Prop} {cc : ByteArray} {nL pc : Nat} {ls : Array Slot} {rest st0 : List Value} {A : Nat → Prop} {D : va_G} {ac : Nat → ClassId} {K : KE} {h : HS} {own ref C : String} {T : u_T} {N ci index k : Nat} {r : Option Nat} {a : Array Value}
theorem c_pre (hG : GK A D ac K s) (hH : HR A D ac K h H) (hS : va_S A s.heap H locs) {av : List Value} : PreS s H (cP A D ac K h av) av :=
  ⟨fun a U g mk q => ⟨q.1, q.2.1, q.2.2.same rfl rfl⟩, fun U hU hW => ⟨rfl, by rw [hU]; exact hH, hG.warm hW (locs := locs) (by rw [hU]; exact hS)⟩⟩
theorem c_preV (hG : GK A D ac K s) (hH : HR A D ac K h H) (hS : va_S A s.heap H locs) {b : Nat} {q : vw_C} (hc : CL[ci]? = some q) (hb : ∃ fs, rd K h b = some (.inr (ci, fs))) {As : List Value} : PreV s H q.1 b (cP A D ac K h (.ref b :: As)) As := by
  obtain ⟨fs, hb⟩ := hb
  obtain ⟨r', h1, cell, q1, q2, q3, q4⟩ := hH.cell hb
  exact ⟨(c_pre hG hH hS).1, ⟨cell, q1, by rw [q3]; rfl, by rw [q2]; exact (hG.1.1 ci q hc).2.1⟩, (c_pre hG hH hS).2⟩
theorem c_calli {x : HS × Int32} (hH : HR A D ac K h H) (hS : va_S A s.heap H locs) (hRM : RM K s R)
    (hr : ∀ cells slots : Nat, cells + (K.2.2.1 - h.2.1) ≤ R.cells → slots + (K.2.2.2 - h.2.2) ≤ R.slots → va_Run p l e R s m args below meth c H locs cells slots (K.2.2.1 - h.2.1) (K.2.2.2 - h.2.2) (F0 m pc ls st0) rest (cQi A D ac K x a) A)
    (kk : ∀ (H1 : Heap) (locs1 : List Loc), HR A D ac K x.1 H1 → va_S A s.heap H1 locs1 → W p l e R s m args below meth c H1 locs1 R.cells R.slots Q (F0 m (pc + 3) ls (.int x.2 :: rest))) : W p l e R s m args below meth c H locs R.cells R.slots Q (F0 m pc ls st0) := by
  refine W_mono fun hu => ?_
  have z1 := hH.2.2.2.1
  have z2 := hH.2.2.2.2.1
  have z3 := hS.1
  have z4 := hH.2.2.2.2.2
  obtain ⟨r1, r2⟩ := hRM
  refine W_tight (k := H.size - s.heap.size) (n := hsum H - hsum s.heap) (by omega) (by omega) ?_
  refine va_calli (hr _ _ (by omega) (by omega)) hS (fun q _ h => h) (fun q h => h) (fun r u t H1 locs1 ht hvm hp hB hz hk hS1 => ?_)
  subst hp; subst ht
  refine W.widen (k := R.cells) (n := R.slots) (by omega) (by omega) ?_
  exact kk _ _ hB hS1
theorem c_calll {x : HS × Int64} (hH : HR A D ac K h H) (hS : va_S A s.heap H locs) (hRM : RM K s R)
    (hr : ∀ cells slots : Nat, cells + (K.2.2.1 - h.2.1) ≤ R.cells → slots + (K.2.2.2 - h.2.2) ≤ R.slots → va_Run p l e R s m args below meth c H locs cells slots (K.2.2.1 - h.2.1) (K.2.2.2 - h.2.2) (F0 m pc ls st0) rest (cQl A D ac K x a) A)
    (kk : ∀ (H1 : Heap) (locs1 : List Loc), HR A D ac K x.1 H1 → va_S A s.heap H1 locs1 → W p l e R s m args below meth c H1 locs1 R.cells R.slots Q (F0 m (pc + 3) ls (.long x.2 :: rest))) : W p l e R s m args below meth c H locs R.cells R.slots Q (F0 m pc ls st0) := by
  refine W_mono fun hu => ?_
  have z1 := hH.2.2.2.1
  have z2 := hH.2.2.2.2.1
  have z3 := hS.1
  have z4 := hH.2.2.2.2.2
  obtain ⟨r1, r2⟩ := hRM
  refine W_tight (k := H.size - s.heap.size) (n := hsum H - hsum s.heap) (by omega) (by omega) ?_
  refine va_calll (hr _ _ (by omega) (by omega)) hS (fun q _ h => h) (fun q h => h) (fun r u t H1 locs1 ht hvm hp hB hz hk hS1 => ?_)
  subst hp; subst ht
  refine W.widen (k := R.cells) (n := R.slots) (by omega) (by omega) ?_
  exact kk _ _ hB hS1
theorem c_callq {x : HS × Option Nat} (hH : HR A D ac K h H) (hS : va_S A s.heap H locs) (hRM : RM K s R)
    (hr : ∀ cells slots : Nat, cells + (K.2.2.1 - h.2.1) ≤ R.cells → slots + (K.2.2.2 - h.2.2) ≤ R.slots → va_Run p l e R s m args below meth c H locs cells slots (K.2.2.1 - h.2.1) (K.2.2.2 - h.2.2) (F0 m pc ls st0) rest (cQq A D ac K x a) A)
    (kk : ∀ (H1 : Heap) (locs1 : List Loc), HR A D ac K x.1 H1 → va_S A s.heap H1 locs1 → W p l e R s m args below meth c H1 locs1 R.cells R.slots Q (F0 m (pc + 3) ls (va_rf x.2 :: rest))) : W p l e R s m args below meth c H locs R.cells R.slots Q (F0 m pc ls st0) := by
  refine W_mono fun hu => ?_
  have z1 := hH.2.2.2.1
  have z2 := hH.2.2.2.2.1
  have z3 := hS.1
  have z4 := hH.2.2.2.2.2
  obtain ⟨r1, r2⟩ := hRM
  refine W_tight (k := H.size - s.heap.size) (n := hsum H - hsum s.heap) (by omega) (by omega) ?_
  refine va_callq (hr _ _ (by omega) (by omega)) hS (fun q _ h => h) (fun q h => h) (fun r u t H1 locs1 ht hvm hp hB hz hk hS1 => ?_)
  subst hp; subst ht
  refine W.widen (k := R.cells) (n := R.slots) (by omega) (by omega) ?_
  exact kk _ _ hB hS1
theorem c_callv {x : HS} (hH : HR A D ac K h H) (hS : va_S A s.heap H locs) (hRM : RM K s R)
    (hr : ∀ cells slots : Nat, cells + (K.2.2.1 - h.2.1) ≤ R.cells → slots + (K.2.2.2 - h.2.2) ≤ R.slots → va_Run p l e R s m args below meth c H locs cells slots (K.2.2.1 - h.2.1) (K.2.2.2 - h.2.2) (F0 m pc ls st0) rest (cQv A D ac K x a) A)
    (kk : ∀ (H1 : Heap) (locs1 : List Loc), HR A D ac K x H1 → va_S A s.heap H1 locs1 → W p l e R s m args below meth c H1 locs1 R.cells R.slots Q (F0 m (pc + 3) ls rest)) : W p l e R s m args below meth c H locs R.cells R.slots Q (F0 m pc ls st0) := by
  refine W_mono fun hu => ?_
  have z1 := hH.2.2.2.1
  have z2 := hH.2.2.2.2.1
  have z3 := hS.1
  have z4 := hH.2.2.2.2.2
  obtain ⟨r1, r2⟩ := hRM
  refine W_tight (k := H.size - s.heap.size) (n := hsum H - hsum s.heap) (by omega) (by omega) ?_
  refine va_callv (hr _ _ (by omega) (by omega)) hS (fun q _ h => h) (fun q h => h) (fun u t H1 locs1 ht hvm hp hB hz hk hS1 => ?_)
  subst ht
  refine W.widen (k := R.cells) (n := R.slots) (by omega) (by omega) ?_
  exact kk _ _ hB hS1
-- ends
theorem c_iret {x : HS × Int32} {v : Int32} {ty : FieldType} (S : CallFix p m c cc nL s args lw_all own) (hr : meth.sig.returnType = some ty) (hlk : meth.locks = false) (hn : narrow ty (.int v) = .int v) (hH : HR A D ac K h H) (hS : va_S A s.heap H locs) (hx : some (h, v) = some x) (hdg : decode cc pc = .ok (.ireturn, 1)) : W p l e R s m args below meth c H locs R.cells R.slots (MQ below (cQi A D ac K x) args s R.cells R.slots A) (F0 m pc ls [.int v]) := by
  cases hx
  exact W.zret S.1 S.2.1 hr hn (fun t ht hW => ⟨⟨v, (), rfl, rfl, (show HR A D ac K h t.heap by rw [ht]; exact hH)⟩, hS.F ht⟩) hS.2.2 hdg
theorem c_lret {x : HS × Int64} {v : Int64} (S : CallFix p m c cc nL s args lw_all own) (hr : meth.sig.returnType = some .long) (hlk : meth.locks = false) (hH : HR A D ac K h H) (hS : va_S A s.heap H locs) (hx : some (h, v) = some x) (hdg : decode cc pc = .ok (.lreturn, 1)) : W p l e R s m args below meth c H locs R.cells R.slots (MQ below (cQl A D ac K x) args s R.cells R.slots A) (F0 m pc ls [.long v]) := by
  cases hx
  exact W.lret S.1 S.2.1 hr (fun t ht hW => ⟨⟨v, (), rfl, rfl, (show HR A D ac K h t.heap by rw [ht]; exact hH)⟩, hS.F ht⟩) hS.2.2 hdg
theorem c_aret {x : HS × Option Nat} {v : Option Nat} {rt : FieldType} (S : CallFix p m c cc nL s args lw_all own) (hr : meth.sig.returnType = some rt) (hrt : (∃ n, rt = .object n) ∨ ∃ t, rt = .array t) (hlk : meth.locks = false) (hH : HR A D ac K h H) (hS : va_S A s.heap H locs) (hx : some (h, v) = some x) (hdg : decode cc pc = .ok (.areturn, 1)) : W p l e R s m args below meth c H locs R.cells R.slots (MQ below (cQq A D ac K x) args s R.cells R.slots A) (F0 m pc ls [va_rf v]) := by
  cases hx
  exact W.aret S.1 S.2.1 hr hrt (by cases v with | none => exact Or.inl rfl | some a => exact Or.inr ⟨a, rfl⟩) (fun t ht hW => ⟨⟨v, (), rfl, rfl, (show HR A D ac K h t.heap by rw [ht]; exact hH)⟩, hS.F ht⟩) hS.2.2 hdg
theorem c_vret {x : HS} (S : CallFix p m c cc nL s args lw_all own) (hr : meth.sig.returnType = none) (hlk : meth.locks = false) (hH : HR A D ac K h H) (hS : va_S A s.heap H locs) (hx : some h = some x) (hdg : decode cc pc = .ok (.return_, 1)) : W p l e R s m args below meth c H locs R.cells R.slots (MQ below (cQv A D ac K x) args s R.cells R.slots A) (F0 m pc ls []) := by
  cases hx
  exact W.vret S.1 S.2.1 hr (fun t ht hW => ⟨⟨(), rfl, trivial, (show HR A D ac K h t.heap by rw [ht]; exact hH)⟩, hS.F ht⟩) hS.2.2 hdg
theorem c_iret' {x v : Int32} {ty : FieldType} (S : CallFix p m c cc nL s args lw_all own) (hr : meth.sig.returnType = some ty) (hlk : meth.locks = false) (hn : narrow ty (.int v) = .int v) (hH : HR A D ac K h H) (hS : va_S A s.heap H locs) (hx : some v = some x) (hdg : decode cc pc = .ok (.ireturn, 1)) : W p l e R s m args below meth c H locs R.cells R.slots (MQ below (cQi A D ac K (h, x)) args s R.cells R.slots A) (F0 m pc ls [.int v]) := by
  cases hx
  exact c_iret S hr hlk hn hH hS rfl hdg
theorem c_lret' {x v : Int64} (S : CallFix p m c cc nL s args lw_all own) (hr : meth.sig.returnType = some .long) (hlk : meth.locks = false) (hH : HR A D ac K h H) (hS : va_S A s.heap H locs) (hx : some v = some x) (hdg : decode cc pc = .ok (.lreturn, 1)) : W p l e R s m args below meth c H locs R.cells R.slots (MQ below (cQl A D ac K (h, x)) args s R.cells R.slots A) (F0 m pc ls [.long v]) := by
  cases hx
  exact c_lret S hr hlk hH hS rfl hdg
theorem c_aret' {x v : Option Nat} {rt : FieldType} (S : CallFix p m c cc nL s args lw_all own) (hr : meth.sig.returnType = some rt) (hrt : (∃ n, rt = .object n) ∨ ∃ t, rt = .array t) (hlk : meth.locks = false) (hH : HR A D ac K h H) (hS : va_S A s.heap H locs) (hx : some v = some x) (hdg : decode cc pc = .ok (.areturn, 1)) : W p l e R s m args below meth c H locs R.cells R.slots (MQ below (cQq A D ac K (h, x)) args s R.cells R.slots A) (F0 m pc ls [va_rf v]) := by
  cases hx
  exact c_aret S hr hrt hlk hH hS rfl hdg
theorem c_vret' {x : Unit} (S : CallFix p m c cc nL s args lw_all own) (hr : meth.sig.returnType = none) (hlk : meth.locks = false) (hH : HR A D ac K h H) (hS : va_S A s.heap H locs) (_hx : some () = some x) (hdg : decode cc pc = .ok (.return_, 1)) : W p l e R s m args below meth c H locs R.cells R.slots (MQ below (cQv A D ac K h) args s R.cells R.slots A) (F0 m pc ls []) := c_vret S hr hlk hH hS rfl hdg
end CCALLS
theorem Met_ofWF {l : Launch} {y : MethodName} {ws ws' : List Cond} {rm : Room} {Pc : Array Value → State → Prop} {Qc : Array Value → State → Outcome → State → Prop} {mc ms : Nat} {free : Addr → Prop} {cc : ByteArray} {maxL : Nat} {ret : Option FieldType}
    (hy : plainFor y = true) (hw : ws = Cond.code y cc maxL ret :: ws')
    (body : ∀ p e s m args below meth c s₁, BodyLoose p l y (headSpec ws rm) cc maxL ret e s m args below meth c s₁ → c.maxLocals = maxL → Pc args s →
      W p l e (headSpec ws rm).room s m args below meth c s.heap [] 0 0 (MQ below Qc args s mc ms free) (entryFrame m args maxL)) : Met l y ws rm Pc Qc mc ms free := by
  refine MetFree.of_bodySF (code := cc) (maxLocals := maxL) (ret := ret) hy ?_ ?_
  · intro args s m h hn
    obtain ⟨meth, c, h1, h2, h3, h4, h5, h6, -, -⟩ := Cond.code_spec hn (atoms_spec (ws := ws) h _ (by rw [hw]; exact List.mem_cons_self))
    exact ⟨meth, c, h1, h2, h3, h4, h5, h6⟩
  · intro p e s m args below meth c s₁ B hml hP _
    have hh0 : s₁.heap = s.heap := by rw [B.state]; rfl
    obtain ⟨t, a1, o, b1, b2, b3⟩ := body p e s m args below meth c s₁ B hml hP s₁ hh0 (Stand.of_body B)
    exact ⟨t, o, a1, b1, b2, ⟨b3.1, b3.2⟩⟩
theorem c_entry {cc : ByteArray} {y : MethodName} {nL F L : Nat} {ret : Option FieldType} {l : Launch} {A : Nat → Prop} {D : va_G} {ac : Nat → ClassId} {K : KE} {h : HS} {av : List Value} {Qc : Array Value → State → Outcome → State → Prop} (hy : plainFor y = true) (hlen : (lg_sl av).length ≤ nL)
    (body : ∀ (p : Program) (e : Env) (s : State) (m : MethodId) (below : List Frame) (meth : Method) (c : Code), CallFix p m c cc nL s av.toArray lw_all y.cls → meth.sig.returnType = ret → meth.locks = false → meth.name = y.name → GK A D ac K s → RM K s (rmC F L K h) → HR A D ac K h s.heap → va_S A s.heap s.heap [] → ∀ ls, lv_has ls nL (lv_args 0 av) → W p l e (rmC F L K h) s m av.toArray below meth c s.heap [] (K.2.2.1 - h.2.1) (K.2.2.2 - h.2.2) (MQ below Qc av.toArray s (K.2.2.1 - h.2.1) (K.2.2.2 - h.2.2) A) (F0 m 0 ls [])) :
    Met l y (ws_ y cc nL ret) (rmC F L K h) (cP A D ac K h av) Qc (K.2.2.1 - h.2.1) (K.2.2.2 - h.2.2) A := by
  refine Met_ofWF (cc := cc) (maxL := nL) (ret := ret) hy rfl ?_
  intro p e s m args below meth c s₁ B hml hv
  obtain ⟨rfl, hH, hG⟩ := hv
  have hts := atoms_spec (ws := ws_ y cc nL ret) B.pre
  have hts : ∀ w ∈ lw_all, w.before _ s = true := fun w h => hts w (List.mem_cons_of_mem _ h)
  have hown : s.vm.findClass y.cls = some m.cls := findClass_of_methodNamed B.named
  have hl := lv_entry av (n := nL) hlen
  rw [lg_entry_eq]
  refine W.widen (k := K.2.2.1 - h.2.1) (n := K.2.2.2 - h.2.2) (Nat.zero_le _) (Nat.zero_le _) ?_
  have z1 := hH.2.2.2.1
  have z2 := hH.2.2.2.2.1
  have z4 := hH.2.2.2.2.2
  refine body p e s m below meth c ⟨B.exec, B.bytes, hml, hown, hts⟩ B.returns B.notSynchronized (name_of_methodNamed B.named B.method).1 hG ⟨?_, ?_⟩ hH va_S.rf _ hl
  · show s.heap.size + (K.2.2.1 - h.2.1) = K.2.2.1
    omega
  · show hsum s.heap + (K.2.2.2 - h.2.2) = K.2.2.2
    omega

/-! methods that throw the reader's fault (class number 3): results HS × (Nat ⊕ answer) -/
set_option maxRecDepth 100000
def tQi (A : Nat → Prop) (D : va_G) (ac : Nat → ClassId) (K : KE) (x : HS × (Nat ⊕ Int32)) : Array Value → State → Outcome → State → Prop := va_Qi (fun r (_ : Unit) => x.2 = .inr r) (fun _ t => HR A D ac K x.1 t.heap) A
def tQq (A : Nat → Prop) (D : va_G) (ac : Nat → ClassId) (K : KE) (x : HS × (Nat ⊕ Option Nat)) : Array Value → State → Outcome → State → Prop := va_Qq (fun r (_ : Unit) => x.2 = .inr r) (fun _ t => HR A D ac K x.1 t.heap) A
def tQv (A : Nat → Prop) (D : va_G) (ac : Nat → ClassId) (K : KE) (x : HS × (Nat ⊕ Unit)) : Array Value → State → Outcome → State → Prop := va_Qv (fun (_ : Unit) => x.2 = .inr ()) (fun _ t => HR A D ac K x.1 t.heap) A
def tX {β : Type} (A : Nat → Prop) (D : va_G) (ac : Nat → ClassId) (K : KE) (x : HS × (Nat ⊕ β)) : Addr → String → State → State → Prop := vy_X (fun (_ : Unit) => True) (fun q E _ t => E = "FourOnOne$Fault" ∧ x.2 = .inl q ∧ HR A D ac K x.1 t.heap) A
section CTHROW
variable {p : Program} {l : Launch} {e : Env} {R : Room} {s : State} {m : MethodId} {args : Array Value} {below : List Frame} {meth : Method} {c : Code} {H H0 : Heap} {locs : List Loc} {cells slots : Nat} {Q : State → Prop} {cc : ByteArray} {nL pc : Nat} {ls : Array Slot} {rest st0 : List Value} {A : Nat → Prop} {D : va_G} {ac : Nat → ClassId} {K : KE} {h : HS} {own : String} {index : Nat} {r : Option Nat} {a : Array Value}
theorem t_iret {x : HS × (Nat ⊕ Int32)} {v : Int32} {ty : FieldType} (S : CallFix p m c cc nL s args lw_all own) (hr : meth.sig.returnType = some ty) (hlk : meth.locks = false) (hn : narrow ty (.int v) = .int v) (hH : HR A D ac K h H) (hS : va_S A s.heap H locs) (hx : some (h, Sum.inr v) = some x) (hdg : decode cc pc = .ok (.ireturn, 1)) : W p l e R s m args below meth c H locs R.cells R.slots (vy_MQ below (tQi A D ac K x) (tX A D ac K x) args s R.cells R.slots A) (F0 m pc ls [.int v]) := by
  cases hx
  exact vy_ret (W.zret S.1 S.2.1 hr hn (fun t ht hW => ⟨⟨v, (), rfl, rfl, (show HR A D ac K h t.heap by rw [ht]; exact hH)⟩, hS.F ht⟩) hS.2.2 hdg)
theorem t_aret {x : HS × (Nat ⊕ Option Nat)} {v : Option Nat} {rt : FieldType} (S : CallFix p m c cc nL s args lw_all own) (hr : meth.sig.returnType = some rt) (hrt : (∃ n, rt = .object n) ∨ ∃ t, rt = .array t) (hlk : meth.locks = false) (hH : HR A D ac K h H) (hS : va_S A s.heap H locs) (hx : some (h, Sum.inr v) = some x) (hdg : decode cc pc = .ok (.areturn, 1)) : W p l e R s m args below meth c H locs R.cells R.slots (vy_MQ below (tQq A D ac K x) (tX A D ac K x) args s R.cells R.slots A) (F0 m pc ls [va_rf v]) := by
  cases hx
  exact vy_ret (W.aret S.1 S.2.1 hr hrt (by cases v with | none => exact Or.inl rfl | some a => exact Or.inr ⟨a, rfl⟩) (fun t ht hW => ⟨⟨v, (), rfl, rfl, (show HR A D ac K h t.heap by rw [ht]; exact hH)⟩, hS.F ht⟩) hS.2.2 hdg)
theorem t_vret {x : HS × (Nat ⊕ Unit)} (S : CallFix p m c cc nL s args lw_all own) (hr : meth.sig.returnType = none) (hlk : meth.locks = false) (hH : HR A D ac K h H) (hS : va_S A s.heap H locs) (hx : some (h, Sum.inr ()) = some x) (hdg : decode cc pc = .ok (.return_, 1)) : W p l e R s m args below meth c H locs R.cells R.slots (vy_MQ below (tQv A D ac K x) (tX A D ac K x) args s R.cells R.slots A) (F0 m pc ls []) := by
  cases hx
  exact vy_ret (W.vret S.1 S.2.1 hr (fun t ht hW => ⟨⟨(), rfl, rfl, (show HR A D ac K h t.heap by rw [ht]; exact hH)⟩, hS.F ht⟩) hS.2.2 hdg)
/-- it goes on to the caller -/
theorem t_prop {β : Type} {x : HS × (Nat ⊕ β)} {Qc : Array Value → State → Outcome → State → Prop} (hEx : ∀ x ∈ c.exceptionTable.toList, False) (hlk : meth.locks = false) {q : Nat} (hH : HR A D ac K h H) (hS : va_S A s.heap H locs) {ce : Cell} (hc : H[q]? = some ce) (hv : ce.vm = .none) (hcl : s.vm.findClass "FourOnOne$Fault" = some ce.cls) (hx : some (h, Sum.inl q) = some x) : vx_W p l e R s m args below meth c H locs R.cells R.slots (vy_MQ below Qc (tX A D ac K x) args s R.cells R.slots A) (F0 m pc ls rest) q := by
  cases hx
  exact vy_out (E := "FourOnOne$Fault") (ce := ce) (fun x hx => (hEx x hx).elim) hlk hc hv hcl (fun t ht hal => ⟨(), trivial, ⟨rfl, rfl, (show HR A D ac K h t.heap by rw [ht]; exact hH)⟩, hS.F ht⟩) hS.2.2 (Nat.le_refl _) (Nat.le_refl _)
theorem t_throw {β : Type} {x : HS × (Nat ⊕ β)} {Qc : Array Value → State → Outcome → State → Prop} (S : CallFix p m c cc nL s args lw_all own) (hG : GK A D ac K s) (hEx : ∀ x ∈ c.exceptionTable.toList, False) (hlk : meth.locks = false) {q : Nat} (hq : rcv K h r 3 = some q) (hH : HR A D ac K h H) (hS : va_S A s.heap H locs) (hx : some (h, Sum.inl q) = some x) (hdg : decode cc pc = .ok (.athrow, 1)) : W p l e R s m args below meth c H locs R.cells R.slots (vy_MQ below Qc (tX A D ac K x) args s R.cells R.slots A) (F0 m pc ls (va_rf r :: rest)) := by
  obtain ⟨rfl, fs, hb⟩ := rcv_e hq
  obtain ⟨r', h1, cell, q1, q2, q3, q4⟩ := hH.cell hb
  exact vx_athrow S.1 S.2.1 hdg (t_prop hEx hlk hH hS q1 q3 (by rw [q2]; exact (hG.1.1 3 _ rfl).2.1) hx)
theorem t_calli {x1 : HS × (Nat ⊕ Int32)} (hH : HR A D ac K h H) (hS : va_S A s.heap H locs) (hRM : RM K s R)
    (hr : ∀ cells slots : Nat, cells + (K.2.2.1 - h.2.1) ≤ R.cells → slots + (K.2.2.2 - h.2.2) ≤ R.slots → vy_Run p l e R s m args below meth c H locs cells slots (K.2.2.1 - h.2.1) (K.2.2.2 - h.2.2) (F0 m pc ls st0) rest (tQi A D ac K x1 a) (tX A D ac K x1) A)
    (kx : ∀ (q : Nat) (H1 : Heap) (locs1 : List Loc) (ce : Cell), x1.2 = .inl q → HR A D ac K x1.1 H1 → va_S A s.heap H1 locs1 → H1[q]? = some ce → ce.vm = .none → s.vm.findClass "FourOnOne$Fault" = some ce.cls → vx_W p l e R s m args below meth c H1 locs1 R.cells R.slots Q (F0 m pc ls rest) q)
    (kk : ∀ (v : Int32) (H1 : Heap) (locs1 : List Loc), x1.2 = .inr v → HR A D ac K x1.1 H1 → va_S A s.heap H1 locs1 → W p l e R s m args below meth c H1 locs1 R.cells R.slots Q (F0 m (pc + 3) ls (.int v :: rest))) : W p l e R s m args below meth c H locs R.cells R.slots Q (F0 m pc ls st0) := by
  refine W_mono fun hu => ?_
  have z1 := hH.2.2.2.1
  have z2 := hH.2.2.2.2.1
  have z3 := hS.1
  have z4 := hH.2.2.2.2.2
  obtain ⟨r1, r2⟩ := hRM
  refine W_tight (k := H.size - s.heap.size) (n := hsum H - hsum s.heap) (by omega) (by omega) ?_
  refine vy_calli (hr _ _ (by omega) (by omega)) hS (fun q _ h => h) (fun q h => h) (fun q _ h => h) (fun E ce q9 u t H1 locs1 ht hvm hp hB hz hk hS1 g1 g2 g3 => ?_) (fun r u t H1 locs1 ht hvm hp hB hz hk hS1 => ?_)
  · obtain ⟨rfl, b1, b2⟩ := hB
    subst ht
    exact vx_widen (k := R.cells) (n := R.slots) (by omega) (by omega) (kx q9 _ _ ce b1 b2 hS1 g1 g2 g3)
  · subst ht
    exact W.widen (k := R.cells) (n := R.slots) (by omega) (by omega) (kk r _ _ hp hB hS1)
theorem t_callq {x1 : HS × (Nat ⊕ Option Nat)} (hH : HR A D ac K h H) (hS : va_S A s.heap H locs) (hRM : RM K s R)
    (hr : ∀ cells slots : Nat, cells + (K.2.2.1 - h.2.1) ≤ R.cells → slots + (K.2.2.2 - h.2.2) ≤ R.slots → vy_Run p l e R s m args below meth c H locs cells slots (K.2.2.1 - h.2.1) (K.2.2.2 - h.2.2) (F0 m pc ls st0) rest (tQq A D ac K x1 a) (tX A D ac K x1) A)
    (kx : ∀ (q : Nat) (H1 : Heap) (locs1 : List Loc) (ce : Cell), x1.2 = .inl q → HR A D ac K x1.1 H1 → va_S A s.heap H1 locs1 → H1[q]? = some ce → ce.vm = .none → s.vm.findClass "FourOnOne$Fault" = some ce.cls → vx_W p l e R s m args below meth c H1 locs1 R.cells R.slots Q (F0 m pc ls rest) q)
    (kk : ∀ (v : Option Nat) (H1 : Heap) (locs1 : List Loc), x1.2 = .inr v → HR A D ac K x1.1 H1 → va_S A s.heap H1 locs1 → W p l e R s m args below meth c H1 locs1 R.cells R.slots Q (F0 m (pc + 3) ls (va_rf v :: rest))) : W p l e R s m args below meth c H locs R.cells R.slots Q (F0 m pc ls st0) := by
  refine W_mono fun hu => ?_
  have z1 := hH.2.2.2.1
  have z2 := hH.2.2.2.2.1
  have z3 := hS.1
  have z4 := hH.2.2.2.2.2
  obtain ⟨r1, r2⟩ := hRM
  refine W_tight (k := H.size - s.heap.size) (n := hsum H - hsum s.heap) (by omega) (by omega) ?_
  refine vy_callq (hr _ _ (by omega) (by omega)) hS (fun q _ h => h) (fun q h => h) (fun q _ h => h) (fun E ce q9 u t H1 locs1 ht hvm hp hB hz hk hS1 g1 g2 g3 => ?_) (fun r u t H1 locs1 ht hvm hp hB hz hk hS1 => ?_)
  · obtain ⟨rfl, b1, b2⟩ := hB
    subst ht
    exact vx_widen (k := R.cells) (n := R.slots) (by omega) (by omega) (kx q9 _ _ ce b1 b2 hS1 g1 g2 g3)
  · subst ht
    exact W.widen (k := R.cells) (n := R.slots) (by omega) (by omega) (kk r _ _ hp hB hS1)
theorem t_callv {x1 : HS × (Nat ⊕ Unit)} (hH : HR A D ac K h H) (hS : va_S A s.heap H locs) (hRM : RM K s R)
    (hr : ∀ cells slots : Nat, cells + (K.2.2.1 - h.2.1) ≤ R.cells → slots + (K.2.2.2 - h.2.2) ≤ R.slots → vy_Run p l e R s m args below meth c H locs cells slots (K.2.2.1 - h.2.1) (K.2.2.2 - h.2.2) (F0 m pc ls st0) rest (tQv A D ac K x1 a) (tX A D ac K x1) A)
    (kx : ∀ (q : Nat) (H1 : Heap) (locs1 : List Loc) (ce : Cell), x1.2 = .inl q → HR A D ac K x1.1 H1 → va_S A s.heap H1 locs1 → H1[q]? = some ce → ce.vm = .none → s.vm.findClass "FourOnOne$Fault" = some ce.cls → vx_W p l e R s m args below meth c H1 locs1 R.cells R.slots Q (F0 m pc ls rest) q)
    (kk : ∀ (v : Unit) (H1 : Heap) (locs1 : List Loc), x1.2 = .inr v → HR A D ac K x1.1 H1 → va_S A s.heap H1 locs1 → W p l e R s m args below meth c H1 locs1 R.cells R.slots Q (F0 m (pc + 3) ls rest)) : W p l e R s m args below meth c H locs R.cells R.slots Q (F0 m pc ls st0) := by
  refine W_mono fun hu => ?_
  have z1 := hH.2.2.2.1
  have z2 := hH.2.2.2.2.1
  have z3 := hS.1
  have z4 := hH.2.2.2.2.2
  obtain ⟨r1, r2⟩ := hRM
  refine W_tight (k := H.size - s.heap.size) (n := hsum H - hsum s.heap) (by omega) (by omega) ?_
  refine vy_callv (hr _ _ (by omega) (by omega)) hS (fun q _ h => h) (fun q h => h) (fun q _ h => h) (fun E ce q9 u t H1 locs1 ht hvm hp hB hz hk hS1 g1 g2 g3 => ?_) (fun u t H1 locs1 ht hvm hp hB hz hk hS1 => ?_)
  · obtain ⟨rfl, b1, b2⟩ := hB
    subst ht
    exact vx_widen (k := R.cells) (n := R.slots) (by omega) (by omega) (kx q9 _ _ ce b1 b2 hS1 g1 g2 g3)
  · subst ht
    exact W.widen (k := R.cells) (n := R.slots) (by omega) (by omega) (kk () _ _ hp hB hS1)
end CTHROW
theorem t_entry {cc : ByteArray} {y : MethodName} {nL F L : Nat} {ret : Option FieldType} {l : Launch} {A : Nat → Prop} {D : va_G} {ac : Nat → ClassId} {K : KE} {h : HS} {av : List Value} {Qc : Array Value → State → Outcome → State → Prop} {XC : Addr → String → State → State → Prop} (hy : plainName y.cls = true) (hlen : (lg_sl av).length ≤ nL)
    (body : ∀ (p : Program) (e : Env) (s : State) (m : MethodId) (below : List Frame) (meth : Method) (c : Code), CallFix p m c cc nL s av.toArray lw_all y.cls → meth.sig.returnType = ret → meth.locks = false → meth.name = y.name → (∀ x ∈ c.exceptionTable.toList, False) → GK A D ac K s → RM K s (rmC F L K h) → HR A D ac K h s.heap → va_S A s.heap s.heap [] → ∀ ls, lv_has ls nL (lv_args 0 av) → W p l e (rmC F L K h) s m av.toArray below meth c s.heap [] (K.2.2.1 - h.2.1) (K.2.2.2 - h.2.2) (vy_MQ below Qc XC av.toArray s (K.2.2.1 - h.2.1) (K.2.2.2 - h.2.2) A) (F0 m 0 ls [])) :
    vy_Met l y (ws_ y cc nL ret) (rmC F L K h) (cP A D ac K h av) Qc XC (K.2.2.1 - h.2.1) (K.2.2.2 - h.2.2) A := by
  refine vy_ofW (cc := cc) (maxL := nL) (ret := ret) hy rfl ?_
  intro p e s m args below meth c s₁ B hml hEx hv
  obtain ⟨rfl, hH, hG⟩ := hv
  have hts := atoms_spec (ws := ws_ y cc nL ret) B.pre
  have hts : ∀ w ∈ lw_all, w.before _ s = true := fun w h => hts w (List.mem_cons_of_mem _ h)
  have hown : s.vm.findClass y.cls = some m.cls := findClass_of_methodNamed B.named
  have hl := lv_entry av (n := nL) hlen
  rw [lg_entry_eq]
  refine W.widen (k := K.2.2.1 - h.2.1) (n := K.2.2.2 - h.2.2) (Nat.zero_le _) (Nat.zero_le _) ?_
  have z1 := hH.2.2.2.1
  have z2 := hH.2.2.2.2.1
  have z4 := hH.2.2.2.2.2
  refine body p e s m below meth c ⟨B.exec, B.bytes, hml, hown, hts⟩ B.returns B.notSynchronized (name_of_methodNamed B.named B.method).1 hEx hG ⟨?_, ?_⟩ hH va_S.rf _ hl
  · show s.heap.size + (K.2.2.1 - h.2.1) = K.2.2.1
    omega
  · show hsum s.heap + (K.2.2.2 - h.2.2) = K.2.2.2
    omega
def tb {β γ : Type} (x : HS × (Nat ⊕ β)) (f : Nat → Option γ) (g : β → Option γ) : Option γ := match x.2 with
  | .inl q => f q
  | .inr v => g v
theorem tb_l {β γ : Type} {x : HS × (Nat ⊕ β)} {f : Nat → Option γ} {g : β → Option γ} {r : Option γ} {q : Nat} (e : x.2 = .inl q) (z : tb x f g = r) : f q = r := by
  unfold tb at z
  rw [e] at z
  exact z
theorem tb_r {β γ : Type} {x : HS × (Nat ⊕ β)} {f : Nat → Option γ} {g : β → Option γ} {r : Option γ} {v : β} (e : x.2 = .inr v) (z : tb x f g = r) : g v = r := by
  unfold tb at z
  rw [e] at z
  exact z
section CCATCH
variable {p : Program} {l : Launch} {e : Env} {R : Room} {s : State} {m : MethodId} {args : Array Value} {below : List Frame} {meth : Method} {c : Code} {H : Heap} {locs : List Loc} {cells slots : Nat} {Q : State → Prop} {cc : ByteArray} {nL pc : Nat} {ls : Array Slot} {rest : List Value} {own : String}
theorem t_catch (S : CallFix p m c cc nL s args lw_all own) {x : ExceptionTableEntry} (hTb : c.exceptionTable.toList = [x]) (hx : covers x pc = true) (h0 : x.catchType ≠ 0) (hlink : Cond.classLink own x.catchType "FourOnOne$Fault" ∈ lw_all) (hca : va_Nw (.castable "FourOnOne$Fault" "FourOnOne$Fault") s) {q : Nat} {ce : Cell} (hc : H[q]? = some ce) (hv : ce.vm = .none) (hcl : s.vm.findClass "FourOnOne$Fault" = some ce.cls) (kk : W p l e R s m args below meth c H locs cells slots Q (F0 m x.handlerPc ls [va_rf (some q)])) : vx_W p l e R s m args below meth c H locs cells slots Q (F0 m pc ls rest) q :=
  vx_catch S.2.2.2.1 [] x [] hTb (fun z h => by cases h) hx h0 (S.2.2.2.2 _ hlink) (va_Nw.use rfl hca) hc hv hcl kk
end CCATCH
theorem Met_ofWH {l : Launch} {y : MethodName} {ws ws' : List Cond} {rm : Room} {Pc : Array Value → State → Prop} {Qc : Array Value → State → Outcome → State → Prop} {mc ms : Nat} {free : Addr → Prop} {cc : ByteArray} {maxL : Nat} {ret : Option FieldType} {hh : List (Nat × Nat × Nat × Nat)}
    (hy : plainName y.cls = true) (hw : ws = Cond.codeWith y cc maxL ret hh :: ws')
    (body : ∀ p e s m args below meth c s₁, BodyLoose p l y (headSpec ws rm) cc maxL ret e s m args below meth c s₁ → c.maxLocals = maxL → Pc args s →
      W p l e (headSpec ws rm).room s m args below meth c s.heap [] 0 0 (MQ below Qc args s mc ms free) (entryFrame m args maxL)) : Met l y ws rm Pc Qc mc ms free := by
  refine MetFree.of_bodyS (code := cc) (maxLocals := maxL) (ret := ret) hy ?_ ?_
  · intro args s m h hn
    obtain ⟨m9, meth, c, hn9, h1, h2, h3, h4, -, h5, h6, -⟩ := Cond.codeWith_spec (atoms_spec (ws := ws) h _ (by rw [hw]; exact List.mem_cons_self))
    cases Option.some.inj (hn9.symm.trans hn)
    exact ⟨meth, c, h1, h2, h3, h4, h5, h6⟩
  · intro p e s m args below meth c s₁ B hml hP _
    have hh0 : s₁.heap = s.heap := by rw [B.state]; rfl
    obtain ⟨t, a1, o, b1, b2, b3⟩ := body p e s m args below meth c s₁ B hml hP s₁ hh0 (Stand.of_body B)
    exact ⟨t, o, a1, b1, b2, ⟨b3.1, b3.2⟩⟩
theorem c_entryH {cc : ByteArray} {y : MethodName} {nL F L a1 a2 a3 a4 : Nat} {ret : Option FieldType} {l : Launch} {A : Nat → Prop} {D : va_G} {ac : Nat → ClassId} {K : KE} {h : HS} {av : List Value} {Qc : Array Value → State → Outcome → State → Prop} (hy : plainName y.cls = true) (hlen : (lg_sl av).length ≤ nL)
    (body : ∀ (p : Program) (e : Env) (s : State) (m : MethodId) (below : List Frame) (meth : Method) (c : Code), CallFix p m c cc nL s av.toArray lw_all y.cls → meth.sig.returnType = ret → meth.locks = false → meth.name = y.name → c.exceptionTable.toList = [⟨a1, a2, a3, a4⟩] → GK A D ac K s → RM K s (rmC F L K h) → HR A D ac K h s.heap → va_S A s.heap s.heap [] → ∀ ls, lv_has ls nL (lv_args 0 av) → W p l e (rmC F L K h) s m av.toArray below meth c s.heap [] (K.2.2.1 - h.2.1) (K.2.2.2 - h.2.2) (MQ below Qc av.toArray s (K.2.2.1 - h.2.1) (K.2.2.2 - h.2.2) A) (F0 m 0 ls [])) :
    Met l y (wsW_ y cc nL ret [(a1, a2, a3, a4)]) (rmC F L K h) (cP A D ac K h av) Qc (K.2.2.1 - h.2.1) (K.2.2.2 - h.2.2) A := by
  refine Met_ofWH (cc := cc) (maxL := nL) (ret := ret) hy rfl ?_
  intro p e s m args below meth c s₁ B hml hv
  obtain ⟨rfl, hH, hG⟩ := hv
  have hts0 := atoms_spec (ws := wsW_ y cc nL ret [(a1, a2, a3, a4)]) B.pre
  have hts : ∀ w ∈ lw_all, w.before _ s = true := fun w h => hts0 w (List.mem_cons_of_mem _ h)
  have hown : s.vm.findClass y.cls = some m.cls := findClass_of_methodNamed B.named
  have hTb : c.exceptionTable.toList = [⟨a1, a2, a3, a4⟩] := vx_table (x := y) B (hts0 _ List.mem_cons_self)
  have hl := lv_entry av (n := nL) hlen
  rw [lg_entry_eq]
  refine W.widen (k := K.2.2.1 - h.2.1) (n := K.2.2.2 - h.2.2) (Nat.zero_le _) (Nat.zero_le _) ?_
  have z1 := hH.2.2.2.1
  have z2 := hH.2.2.2.2.1
  have z4 := hH.2.2.2.2.2
  refine body p e s m below meth c ⟨B.exec, B.bytes, hml, hown, hts⟩ B.returns B.notSynchronized (name_of_methodNamed B.named B.method).1 hTb hG ⟨?_, ?_⟩ hH va_S.rf _ hl
  · show s.heap.size + (K.2.2.1 - h.2.1) = K.2.2.1
    omega
  · show hsum s.heap + (K.2.2.2 - h.2.2) = K.2.2.2
    omega

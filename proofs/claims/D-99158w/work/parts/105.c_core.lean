/-! casts, interface calls, statics, texts; what may be written into fields -/
set_option maxRecDepth 100000
theorem in_X19 : ∀ w ∈ u_ws RX19 TX19 0, w ∈ lw_all := by intro w h; cases h
theorem nr_o {C : String} (r : Option Nat) : narrow (.object C) (va_rf r) = va_rf r := by cases r <;> rfl
theorem ft_o {C : String} (r : Option Nat) : fits (.object C) (va_rf r) = true := by cases r <;> rfl
theorem nr_a {t : FieldType} (r : Option Nat) : narrow (.array t) (va_rf r) = va_rf r := by cases r <;> rfl
theorem ft_a {t : FieldType} (r : Option Nat) : fits (.array t) (va_rf r) = true := by cases r <;> rfl
theorem ct_i (x : Int32) : (Value.int x).category = 1 := rfl
theorem ct_l (x : Int64) : (Value.long x).category = 2 := rfl
theorem ct_r (r : Option Nat) : (va_rf r).category = 1 := by cases r <;> rfl
/-- a byte, a char -/
def br (x : Int32) : Option Int32 := if vp_nar .byte x = x then some x else none
def cr (x : Int32) : Option Int32 := if vp_nar .char x = x then some x else none
theorem br_e {x y : Int32} (h : br x = some y) : narrow .byte (.int x) = .int x ∧ fits .byte (.int x) = true := by
  unfold br at h
  split at h
  · rename_i q
    have e : narrow .byte (.int x) = .int x := by
      show Value.int (vp_nar .byte x) = .int x
      rw [q]
    refine ⟨e, ?_⟩
    rw [← q, vp_nar_byte]
    exact pk_fb x
  · cases h
theorem cr_e {x y : Int32} (h : cr x = some y) : narrow .char (.int x) = .int x := by
  unfold cr at h
  split at h
  · rename_i q
    show Value.int (vp_nar .char x) = .int x
    rw [q]
  · cases h
def ckL (K : KE) (h : HS) (r : Option Nat) (cis : List Nat) : Option Unit := match r with
  | none => some ()
  | some a => match rd K h a with
    | some (.inr o) => if o.1 ∈ cis then some () else none
    | _ => none
/-- the name in a Named, a Film, a Person -/
def gNm (K : KE) (h : HS) (r : Option Nat) : Option (Option Nat) := match gR K h r 6 0 with
  | some v => some v
  | none => match gR K h r 7 0 with
    | some v => some v
    | none => gR K h r 8 0
/-- address and class of an object -/
def clsOf (K : KE) (h : HS) (r : Option Nat) : Option (Nat × Nat) := match r with
  | none => none
  | some a => match rd K h a with
    | some (.inr o) => some (a, o.1)
    | _ => none
theorem clsOf_e {K : KE} {h : HS} {r : Option Nat} {q : Nat × Nat} (hv : clsOf K h r = some q) : r = some q.1 ∧ ∃ fs, rd K h q.1 = some (.inr (q.2, fs)) := by
  unfold clsOf at hv
  split at hv
  · cases hv
  · split at hv
    · rename_i o ho
      cases hv
      exact ⟨rfl, o.2, ho⟩
    · cases hv
section CROWS5
variable {p : Program} {l : Launch} {e : Env} {R : Room} {s : State} {m : MethodId} {args : Array Value} {below : List Frame} {meth : Method} {c : Code} {H H0 : Heap} {locs : List Loc} {cells slots : Nat} {Q : State → Prop} {cc : ByteArray} {nL pc : Nat} {ls : Array Slot} {rest st0 : List Value} {A : Nat → Prop} {D : va_G} {ac : Nat → ClassId} {K : KE} {h : HS} {own ref C : String} {T : u_T} {N ci index k : Nat} {r : Option Nat} {a : Array Value}
theorem c_recv (hG : GK A D ac K s) (hH : HR A D ac K h H) {b : Nat} {q : vw_C} (hc : CL[ci]? = some q) (hb : ∃ fs, rd K h b = some (.inr (ci, fs))) : ∃ cell : Cell, H[b]? = some cell ∧ cell.vm.isStatics = false ∧ s.vm.findClass q.1 = some cell.cls := by
  obtain ⟨fs, hb⟩ := hb
  obtain ⟨r', h1, cell, q1, q2, q3, q4⟩ := hH.cell hb
  exact ⟨cell, q1, by rw [q3]; rfl, by rw [q2]; exact (hG.1.1 ci q hc).2.1⟩
theorem c_castL (S : CallFix p m c cc nL s args lw_all own) (hG : GK A D ac K s) (hH : HR A D ac K h H) {nm : String} (hlink : Cond.classLink own index nm ∈ lw_all) (cis : List Nat) (hc : ∀ ci ∈ cis, ∃ q : vw_C, CL[ci]? = some q ∧ (Cond.castable q.1 nm ∈ lw_tbl ∨ q.1 = nm)) {u : Unit} (hv : ckL K h r cis = some u) (hdg : decode cc pc = .ok (.checkcast index, 3)) (kk : W p l e R s m args below meth c H locs cells slots Q (F0 m (pc + 3) ls (va_rf r :: rest))) : W p l e R s m args below meth c H locs cells slots Q (F0 m pc ls (va_rf r :: rest)) := by
  cases r with
  | none => exact lv_castN S.1 S.2.1 hdg kk
  | some a =>
    unfold ckL at hv
    dsimp only at hv
    split at hv
    · rename_i o ho
      split at hv
      · rename_i hm
        obtain ⟨q, h1, h2⟩ := hc _ hm
        have hr := c_recv hG hH (ci := o.1) (b := a) h1 ⟨o.2, ho⟩
        rcases h2 with h2 | h2
        · exact va_castY S.1 S.2.1 S.2.2.2.1 (S.2.2.2.2 _ hlink) (hG.2.1.2.2.2.1 _ _ h2) hr hdg kk
        · subst h2
          exact va_castS S.1 S.2.1 S.2.2.2.1 (S.2.2.2.2 _ hlink) (hG.1.1 _ q h1).2 hr hdg kk
      · cases hv
    · cases hv
theorem c_instS (S : CallFix p m c cc nL s args lw_all own) (hG : GK A D ac K s) (hH : HR A D ac K h H) {q : vw_C} (hc : CL[ci]? = some q) (hlink : Cond.classLink own index q.1 ∈ lw_all) {b : Nat} (hv : rcv K h r ci = some b) (hdg : decode cc pc = .ok (.instanceof index, 3)) (kk : W p l e R s m args below meth c H locs cells slots Q (F0 m (pc + 3) ls (.int 1 :: rest))) : W p l e R s m args below meth c H locs cells slots Q (F0 m pc ls (va_rf r :: rest)) := by
  obtain ⟨rfl, hb⟩ := rcv_e hv
  exact va_instS S.1 S.2.1 S.2.2.2.1 (S.2.2.2.2 _ hlink) (hG.1.1 _ q hc).2 (c_recv hG hH hc hb) hdg kk
theorem c_gets {n d : String} (S : CallFix p m c cc nL s args lw_all own) (hG : GK A D ac K s) (hS : va_S A s.heap H locs) {i : Nat} (hz : (i, C, n, d) ∈ szL) (hlink : Cond.fieldLink own index C n d ∈ lw_all) (hdg : decode cc pc = .ok (.getstatic index, 3)) (kk : W p l e R s m args below meth c H locs cells slots Q (F0 m (pc + 3) ls (va_rf (K.2.1 i) :: rest))) : W p l e R s m args below meth c H locs cells slots Q (F0 m pc ls rest) :=
  va_gets S.1 S.2.1 (hG.2.2.2.2.2.2.2.1 _ hz) hS S.2.2.2.1 (S.2.2.2.2 _ hlink) (fun _ z => z) hdg kk
theorem c_getsN {n d host : String} (S : CallFix p m c cc nL s args lw_all own) (hG : GK A D ac K s) (hS : va_S A s.heap H locs) {i : Nat} (hz : (i, C, n, d) ∈ szL) (hlink : Cond.fieldLinkNest own index C n d host ∈ lw_tbl) (hdg : decode cc pc = .ok (.getstatic index, 3)) (kk : W p l e R s m args below meth c H locs cells slots Q (F0 m (pc + 3) ls (va_rf (K.2.1 i) :: rest))) : W p l e R s m args below meth c H locs cells slots Q (F0 m pc ls rest) :=
  va_getsN S.1 S.2.1 (hG.2.2.2.2.2.2.2.1 _ hz) hS S.2.2.2.1 (va_Nw.use rfl (hG.2.1.1 _ _ _ _ _ _ hlink)) (fun _ z => z) hdg kk
theorem c_getsC (S : CallFix p m c cc nL s args lw_all own) (hG : GK A D ac K s) (hS : va_S A s.heap H locs) (hlink : Cond.fieldLink own index "java/lang/String" "COMPACT_STRINGS" "Z" ∈ lw_all) (hdg : decode cc pc = .ok (.getstatic index, 3)) (kk : W p l e R s m args below meth c H locs cells slots Q (F0 m (pc + 3) ls (.int 1 :: rest))) : W p l e R s m args below meth c H locs cells slots Q (F0 m pc ls rest) :=
  va_gets S.1 S.2.1 hG.2.2.2.2.2.2.2.2 hS S.2.2.2.1 (S.2.2.2.2 _ hlink) (fun _ z => z) hdg kk
theorem c_ldcS (S : CallFix p m c cc nL s args lw_all own) (hG : GK A D ac K s) {i : Nat} {tx : String} (hz : (i, own, index, tx) ∈ txL) (hdg : decode cc pc = .ok (.ldc index, 2)) (kk : W p l e R s m args below meth c H locs cells slots Q (F0 m (pc + 2) ls (va_rf (K.2.1 i) :: rest))) : W p l e R s m args below meth c H locs cells slots Q (F0 m pc ls rest) := by
  obtain ⟨a, h1, h2⟩ := hG.2.2.2.2.2.1 _ hz
  rw [h1] at kk
  exact va_ldcS S.1 S.2.1 S.2.2.2.1 h2 hdg kk
theorem c_null (hx : p.tables.exec = Jvm.exec) (hb : c.code = cc) (hdg : decode cc pc = .ok (.aconst_null, 1)) (kk : W p l e R s m args below meth c H locs cells slots Q (F0 m (pc + 1) ls (va_rf none :: rest))) : W p l e R s m args below meth c H locs cells slots Q (F0 m pc ls rest) := lv_null hx hb hdg kk
theorem c_obj (S : CallFix p m c cc nL s args lw_all own) (hlink : Cond.methodLink own index Lib.objectInit ∈ lw_all) (hin : Cond.instanceMethod Lib.objectInit ∈ lw_all) (hcode : Cond.code Lib.objectInit object_method_1_code 1 none ∈ lw_all) {b : Nat} (hsz : ls.size = nL) (hf : 1 ≤ R.frames) (hr : (rest.map fun v => v.category).sum ≤ 8) (hlo : 20 ≤ R.locals) (hdg : decode cc pc = .ok (.invokespecial index, 3)) (kk : W p l e R s m args below meth c H locs cells slots Q (F0 m (pc + 3) ls rest)) : W p l e R s m args below meth c H locs cells slots Q (F0 m pc ls (va_rf (some b) :: rest)) := by
  refine W.objInit (a := b) (rest := rest) S.1 S.2.1 S.2.2.2.1 (S.2.2.2.2 _ hlink) (S.2.2.2.2 _ hin) (S.2.2.2.2 _ hcode) rfl (by rw [S.2.2.1]; exact hsz) rfl hdg hf ?_ kk
  have h0 := lv_room (m := m) (pc := pc) (ls := ls) (rest := va_rf (some b) :: rest) hr
  have h1 : 2 * (F0 m pc ls (va_rf (some b) :: rest)).monitorRoom + (rest.map fun v => v.category).sum ≤ 8 := h0
  omega
theorem c_callFi {x : HS × Int32} (hH : HR A D ac K h H) (hS : va_S A s.heap H locs) (hRM : RM K s R)
    (hr : ∀ cells slots : Nat, cells + (K.2.2.1 - h.2.1) ≤ R.cells → slots + (K.2.2.2 - h.2.2) ≤ R.slots → va_Run5 p l e R s m args below meth c H locs cells slots (K.2.2.1 - h.2.1) (K.2.2.2 - h.2.2) (F0 m pc ls st0) rest (cQi A D ac K x a) A)
    (kk : ∀ (H1 : Heap) (locs1 : List Loc), HR A D ac K x.1 H1 → va_S A s.heap H1 locs1 → W p l e R s m args below meth c H1 locs1 R.cells R.slots Q (F0 m (pc + 5) ls (.int x.2 :: rest))) : W p l e R s m args below meth c H locs R.cells R.slots Q (F0 m pc ls st0) := by
  refine W_mono fun hu => ?_
  have z1 := hH.2.2.2.1
  have z2 := hH.2.2.2.2.1
  have z3 := hS.1
  have z4 := hH.2.2.2.2.2
  obtain ⟨r1, r2⟩ := hRM
  refine W_tight (k := H.size - s.heap.size) (n := hsum H - hsum s.heap) (by omega) (by omega) ?_
  refine va_callFi (hr _ _ (by omega) (by omega)) hS (fun q _ h => h) (fun q h => h) (fun r u t H1 locs1 ht hvm hp hB hz hk hS1 => ?_)
  subst hp; subst ht
  refine W.widen (k := R.cells) (n := R.slots) (by omega) (by omega) ?_
  exact kk _ _ hB hS1
theorem c_callFq {x : HS × Option Nat} (hH : HR A D ac K h H) (hS : va_S A s.heap H locs) (hRM : RM K s R)
    (hr : ∀ cells slots : Nat, cells + (K.2.2.1 - h.2.1) ≤ R.cells → slots + (K.2.2.2 - h.2.2) ≤ R.slots → va_Run5 p l e R s m args below meth c H locs cells slots (K.2.2.1 - h.2.1) (K.2.2.2 - h.2.2) (F0 m pc ls st0) rest (cQq A D ac K x a) A)
    (kk : ∀ (H1 : Heap) (locs1 : List Loc), HR A D ac K x.1 H1 → va_S A s.heap H1 locs1 → W p l e R s m args below meth c H1 locs1 R.cells R.slots Q (F0 m (pc + 5) ls (va_rf x.2 :: rest))) : W p l e R s m args below meth c H locs R.cells R.slots Q (F0 m pc ls st0) := by
  refine W_mono fun hu => ?_
  have z1 := hH.2.2.2.1
  have z2 := hH.2.2.2.2.1
  have z3 := hS.1
  have z4 := hH.2.2.2.2.2
  obtain ⟨r1, r2⟩ := hRM
  refine W_tight (k := H.size - s.heap.size) (n := hsum H - hsum s.heap) (by omega) (by omega) ?_
  refine va_callFq (hr _ _ (by omega) (by omega)) hS (fun q _ h => h) (fun q h => h) (fun r u t H1 locs1 ht hvm hp hB hz hk hS1 => ?_)
  subst hp; subst ht
  refine W.widen (k := R.cells) (n := R.slots) (by omega) (by omega) ?_
  exact kk _ _ hB hS1
end CROWS5

/-- an inherited private method: 'selects' comes from elsewhere -/
theorem va_cwP {R : Room} {s : State} {args : Array Value} {own C owner : String} {index maxL mc ms : Nat} {x y : MethodName} {bytes : ByteArray} {ret : Option FieldType} {Ts ws ws' : List Cond} {rm : Room} (n : Nat) (ht : ∀ w ∈ Ts, w.before args s = true) (hG : GoodIn Ts ws) (hw : ws = Cond.code y bytes maxL ret :: ws') (hrc : rm.cells = mc) (hrs : rm.slots = ms) (h1 : Cond.methodLink own index x ∈ Ts) (h2 : Cond.sameMethod x.cls owner x.name x.desc ∈ Ts) (h3 : (Cond.selects C x y).before args s = true) (h4 : Cond.instanceMethod y ∈ Ts) (h5 : Cond.initialized y.cls ∈ Ts)
    (hyx : y = ⟨owner, x.name, x.desc⟩) (hd : owner ≠ "java/lang/invoke/MethodHandle" ∧ owner ≠ "java/lang/invoke/VarHandle" ∧ (parseMethodDescriptor x.desc).map (fun d => d.parameters.length) = some n) (hR : rm.frames + 1 ≤ R.frames ∧ 8 + (maxL + 11) + rm.locals ≤ R.locals) : va_CU R s args own C owner index x y bytes maxL ret ws rm mc ms n := by
  have hc : Cond.code y bytes maxL ret ∈ ws := by rw [hw]; exact List.mem_cons_self
  refine ⟨⟨hrc, hrs, hR.1, hR.2, pay_in ht hG, hc⟩, ht _ (hG _ hc).1, ht _ h5, ⟨hd.1, hd.2.1⟩, fun sig h => ?_, ht _ h1, ht _ h2, ?_, h3, ht _ h4⟩
  · have h2 := hd.2.2
    rw [h] at h2
    exact (Option.some.inj h2).symm
  · rw [← hyx]; exact va_Decl.of (ht _ h4) (ht _ (hG _ hc).1)

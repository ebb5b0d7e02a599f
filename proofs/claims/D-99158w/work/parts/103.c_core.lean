/-! rows over the component's world: stores, new cells, calls, ends -/
set_option maxRecDepth 100000
theorem sum_take_drop (L : List Nat) (n : Nat) : (L.take n).sum + (L.drop n).sum = L.sum := by
  rw [← List.sum_append, List.take_append_drop]
section CROWS3
variable {p : Program} {l : Launch} {e : Env} {R : Room} {s : State} {m : MethodId} {args : Array Value} {below : List Frame} {meth : Method} {c : Code} {H H0 : Heap} {locs : List Loc} {cells slots : Nat} {Q : State → Prop} {cc : ByteArray} {nL pc : Nat} {ls : Array Slot} {rest : List Value} {A : Nat → Prop} {D : va_G} {ac : Nat → ClassId} {K : KE} {h : HS} {own ref C : String} {T : u_T} {N ci index k : Nat} {r : Option Nat}
theorem stand_hsum {T' : State} (X : Stand p l e R s m args below meth c T' locs cells slots) : hsum T'.heap = hsum s.heap + ((T'.heap.toList.drop s.heap.size).map (fun c => c.slots.size)).sum := by
  obtain ⟨h1, h2, h3, h4, h5, h6⟩ := X.same
  have h2' : s.heap.size ≤ T'.heap.size := h2
  have e1 : (T'.heap.toList.map (fun c => c.slots.size)).take s.heap.size = s.heap.toList.map (fun c => c.slots.size) := by
    apply List.ext_getElem
    · simp; omega
    · intro i q1 q2
      simp only [List.length_map, Array.length_toList] at q2
      obtain ⟨c', g1, g2, g3, g4⟩ := h6 i _ (Array.getElem?_eq_getElem q2)
      have g1' : T'.heap[i]? = some c' := g1
      obtain ⟨q3, g5⟩ := Array.getElem?_eq_some_iff.mp g1'
      simp only [List.getElem_take, List.getElem_map, Array.getElem_toList]
      rw [g5]
      exact g3
  have e2 := sum_take_drop (T'.heap.toList.map (fun c => c.slots.size)) s.heap.size
  rw [e1, ← List.map_drop] at e2
  exact e2.symm
/-- how many cells and slots are new, as they are -/
theorem W_tight {g : JFrame} {n : Nat} (hz : H.size ≤ s.heap.size + k) (hn : hsum H ≤ hsum s.heap + n) (kk : W p l e R s m args below meth c H locs k n Q g) : W p l e R s m args below meth c H locs cells slots Q g := by
  intro T hT X
  refine kk T hT { X with same := ?_ }
  have e3 := stand_hsum X
  obtain ⟨h1, h2, h3, h4, h5, h6⟩ := X.same
  refine ⟨h1, h2, ?_, h4, ?_, h6⟩
  · show T.heap.size ≤ _
    rw [hT]; exact hz
  · show ((T.heap.toList.drop s.heap.size).map (fun c => c.slots.size)).sum ≤ n
    rw [hT] at e3
    have e4 : ((H.toList.drop s.heap.size).map (fun c => c.slots.size)).sum ≤ n := by omega
    rw [hT]
    exact e4
theorem W_mono {g : JFrame} (kk : hsum s.heap ≤ hsum H → W p l e R s m args below meth c H locs cells slots Q g) : W p l e R s m args below meth c H locs cells slots Q g := by
  intro T hT X
  have e3 := stand_hsum X
  rw [hT] at e3
  exact kk (by omega) T hT X
/-- the room: what is left up to the limits -/
def RM (K : KE) (s : State) (R : Room) : Prop := s.heap.size + R.cells = K.2.2.1 ∧ hsum s.heap + R.slots = K.2.2.2
theorem alc_e {e0 : HE} {n : Nat} {h' : HS} (ha : alc K h e0 n = some h') : h.2.1 + 1 ≤ K.2.2.1 ∧ h.2.2 + n ≤ K.2.2.2 ∧ h' = (va_up h.1 h.2.1 (some e0), h.2.1 + 1, h.2.2 + n) := by
  unfold alc at ha
  split at ha
  · rename_i q
    cases ha
    exact ⟨q.1, q.2, rfl⟩
  · cases ha
theorem HR.new {H1 : Heap} {cell : Cell} {e0 : HE} {n : Nat} {h' : HS} (hH : HR A D ac K h H) (ha : alc K h e0 n = some h') (hH1 : H1 = H.push cell) (hcs : cell.slots.size = n) (hn : va_at D CL (h.2.1, toE ac e0) H1) : HR A D ac K h' H1 := by
  obtain ⟨a1, a2, rfl⟩ := alc_e ha
  have oq : ∀ q : Nat, q < H.size → H1[q]? = H[q]? := fun q hq => by rw [hH1, Array.getElem?_push, if_neg (Nat.ne_of_lt hq)]
  refine ⟨fun q e he => ?_, fun q e he => ?_, fun q hq => hH.2.2.1 q (by have : h.2.1 + 1 ≤ q := hq; omega), ?_, ?_, a1, a2⟩
  · simp only [va_up] at he
    split at he
    · rename_i hq
      subst hq
      cases he
      exact ⟨hH.2.2.1 _ (Nat.le_refl _), hn⟩
    · have := (hH.1 q e he).2
      exact ⟨(hH.1 q e he).1, this.kept (oq q this.lt)⟩
  · have := (hH.2.1 q e he).2
    exact ⟨(hH.2.1 q e he).1, this.kept (oq q this.lt)⟩
  · rw [hH1, Array.size_push, hH.2.2.2.1]
  · rw [hH1, hsum_push, hH.2.2.2.2.1, hcs]
theorem va_S.push {H1 : Heap} {cell : Cell} (hS : va_S A H0 H locs) (hH1 : H1 = H.push cell) : va_S A H0 H1 locs := by
  have oq : ∀ q : Nat, q < H.size → H1[q]? = H[q]? := fun q hq => by rw [hH1, Array.getElem?_push, if_neg (Nat.ne_of_lt hq)]
  exact ⟨Nat.le_trans hS.1 (by rw [hH1, Array.size_push]; omega), fun x h1 h2 => (oq x (Nat.lt_of_lt_of_le h1 hS.1)).trans (hS.2.1 x h1 h2), hS.2.2⟩
theorem c_new (S : CallFix p m c cc nL s args lw_all own) (hG : GK A D ac K s) (hH : HR A D ac K h H) (hS0 : va_S A s.heap H locs) (hRM : RM K s R) (hc : CL[ci]? = some (C, T, N)) (hin : ∀ w ∈ u_ws C T N, w ∈ lw_all) (ty : Nat → FieldType) (hty : ∀ k, k < N → parseFieldDescriptor (T k).2.2.1 = some (ty k)) (hcl : Cond.classLink own index C ∈ lw_all) (hinst : Cond.instantiable C N ∈ lw_all) (hini : Cond.initialized C ∈ lw_all) {fs : List Value} (hfs : ∀ j, j < N → defaultValue (ty j) = vp_V fs j) {h' : HS} (ha : alc K h (.inr (ci, fs)) N = some h') (hdg : decode cc pc = .ok (.new index, 3))
    (kk : ∀ (H1 : Heap) (locs1 : List Loc), HR A D ac K h' H1 → va_S A s.heap H1 locs1 → W p l e R s m args below meth c H1 locs1 R.cells R.slots Q (F0 m (pc + 3) ls (va_rf (some h.2.1) :: rest))) : W p l e R s m args below meth c H locs R.cells R.slots Q (F0 m pc ls rest) := by
  obtain ⟨a1, a2, -⟩ := alc_e ha
  have hKn := hG.1.1 ci _ hc
  have z1 := hH.2.2.2.1
  have z2 := hH.2.2.2.2.1
  have z3 := hS0.1
  obtain ⟨r1, r2⟩ := hRM
  refine W_mono fun hu => ?_
  refine W_tight (k := H.size - s.heap.size) (n := hsum H - hsum s.heap) (by omega) (by omega) ?_
  refine W.newc S.1 S.2.1 S.2.2.2.1 (S.2.2.2.2 _ hcl) (S.2.2.2.2 _ hinst) (S.2.2.2.2 _ hini) rfl hdg (by omega) (by omega) fun cC kC f1 f2 f3 f4 => ?_
  have hcC : cC = D.1 ci := Option.some.inj (f1.symm.trans hKn.2.1)
  subst hcC
  generalize hH1 : H.push ({ cls := D.1 ci, slots := kC.instanceTypes.map defaultValue, vm := .none } : Cell) = H1
  have e1 : H1[H.size]? = some (blank (D.1 ci) kC) := by rw [← hH1, Array.getElem?_push_size]; rfl
  have hHn : HR A D ac K h' H1 := hH.new ha hH1.symm (by simp [f4]) (by rw [← z1]; exact ⟨_, hc, (u_born ty S.2.2.2.2 hin hKn f2 e1 hty).to hfs⟩)
  refine W.widen (k := R.cells) (n := R.slots) (by omega) (by omega) ?_
  show W p l e R s m args below meth c H1 locs R.cells R.slots Q (F0 m (pc + 3) ls (.ref H.size :: rest))
  rw [z1]
  exact kk H1 locs hHn (hS0.push hH1.symm)
/-- a new array of numbers: tag t -/
def nA (K : KE) (h : HS) (t : Nat) (x : (Nat → Int32) ⊕ (Nat → Int64) ⊕ (Nat → UInt32) ⊕ (Nat → UInt64) ⊕ (Nat → Option Nat)) (i : Int32) : Option HS := if i < 0 ∨ 1000000 < i.toNatClampNeg then none else alc K h (.inl (t, i.toNatClampNeg, x)) i.toNatClampNeg
theorem nA_e {t : Nat} {x : (Nat → Int32) ⊕ (Nat → Int64) ⊕ (Nat → UInt32) ⊕ (Nat → UInt64) ⊕ (Nat → Option Nat)} {i : Int32} {h' : HS} (ha : nA K h t x i = some h') : ¬ i < 0 ∧ i.toNatClampNeg ≤ 1000000 ∧ alc K h (.inl (t, i.toNatClampNeg, x)) i.toNatClampNeg = some h' := by
  unfold nA at ha
  split at ha
  · cases ha
  · rename_i q
    exact ⟨fun z => q (Or.inl z), Nat.not_lt.mp fun z => q (Or.inr z), ha⟩
theorem c_newa (S : CallFix p m c cc nL s args lw_all own) (hG : GK A D ac K s) (hH : HR A D ac K h H) (hS0 : va_S A s.heap H locs) (hRM : RM K s R) (t : Nat) {atype : ArrayType} {ty : FieldType} (hat : newarray.typeOf atype = ty) (ht : (TY ac)[t]? = some (ac t, ty)) (hne : va_RA s (ac t) ty → s.vm.findClass ("[" ++ ty.toString) = some (ac t)) (hbz : componentBytes ty ≤ 8) (harr : Cond.arrayClass ty ∈ lw_all) {x : (Nat → Int32) ⊕ (Nat → Int64) ⊕ (Nat → UInt32) ⊕ (Nat → UInt64) ⊕ (Nat → Option Nat)} (hx : ∀ n : Nat, vp_cell (ac t) (n, x) = arrV (ac t) n (fun _ => defaultValue ty)) {i : Int32} {h' : HS} (ha : nA K h t x i = some h') (hdg : decode cc pc = .ok (.newarray atype, 2))
    (kk : ∀ (H1 : Heap) (locs1 : List Loc), HR A D ac K h' H1 → va_S A s.heap H1 locs1 → W p l e R s m args below meth c H1 locs1 R.cells R.slots Q (F0 m (pc + 2) ls (va_rf (some h.2.1) :: rest))) : W p l e R s m args below meth c H locs R.cells R.slots Q (F0 m pc ls (.int i :: rest)) := by
  subst hat
  obtain ⟨i0, i1, ha⟩ := nA_e ha
  obtain ⟨a1, a2, -⟩ := alc_e ha
  have hfc := hne (hG.1.2 t _ ht).2
  have z1 := hH.2.2.2.1
  have z2 := hH.2.2.2.2.1
  have z3 := hS0.1
  obtain ⟨r1, r2⟩ := hRM
  have hbytes : i.toNatClampNeg * componentBytes (newarray.typeOf atype) ≤ 536870912 := Nat.le_trans (Nat.mul_le_mul i1 hbz) (by decide)
  have fin : ∀ (cA : ClassId) (H1 : Heap), s.vm.findClass ("[" ++ (newarray.typeOf atype).toString) = some cA → H.push ({ cls := cA, slots := Array.replicate i.toNatClampNeg (defaultValue (newarray.typeOf atype)), vm := .none } : Cell) = H1 → HR A D ac K h' H1 := by
    intro cA H1 f1 hH1
    have hcC : cA = ac t := Option.some.inj (f1.symm.trans hfc)
    subst hcC
    refine hH.new ha hH1.symm (by simp) ?_
    show H1[h.2.1]? = some (vp_cell (ac t) (i.toNatClampNeg, x))
    rw [hx, ← z1, ← hH1, Array.getElem?_push_size, ← arrV_new]
  refine W_mono fun hu => ?_
  refine W_tight (k := H.size - s.heap.size) (n := hsum H - hsum s.heap) (by omega) (by omega) ?_
  refine W.newa S.1 S.2.1 (S.2.2.2.2 _ harr) rfl hdg rfl i0 hbytes (by omega) (by omega) fun cA kA comp f1 f2 f3 => ?_
  generalize hH1 : H.push ({ cls := cA, slots := Array.replicate i.toNatClampNeg (defaultValue (newarray.typeOf atype)), vm := .none } : Cell) = H1
  refine W.widen (k := R.cells) (n := R.slots) (by omega) (by omega) ?_
  show W p l e R s m args below meth c H1 locs R.cells R.slots Q (F0 m (pc + 2) ls (.ref H.size :: rest))
  rw [z1]
  exact kk H1 locs (fin cA H1 f1 hH1) (hS0.push hH1.symm)
/-- a new array of references to objects of C: tag t -/
theorem c_anew (S : CallFix p m c cc nL s args lw_all own) (hG : GK A D ac K s) (hH : HR A D ac K h H) (hS0 : va_S A s.heap H locs) (hRM : RM K s R) (t : Nat) (ht : (TY ac)[t]? = some (ac t, .object C)) (hcl : Cond.classLink own index C ∈ lw_all) (hov : Cond.arrayOver (.object C) ∈ lw_tbl) {i : Int32} {h' : HS} (ha : nA K h t (.inr (.inr (.inr (.inr (fun _ => none))))) i = some h') (hdg : decode cc pc = .ok (.anewarray index, 3))
    (kk : ∀ (H1 : Heap) (locs1 : List Loc), HR A D ac K h' H1 → va_S A s.heap H1 locs1 → W p l e R s m args below meth c H1 locs1 R.cells R.slots Q (F0 m (pc + 3) ls (va_rf (some h.2.1) :: rest))) : W p l e R s m args below meth c H locs R.cells R.slots Q (F0 m pc ls (.int i :: rest)) := by
  obtain ⟨i0, i1, ha⟩ := nA_e ha
  obtain ⟨a1, a2, -⟩ := alc_e ha
  have hfc : s.vm.findClass ("[" ++ (FieldType.object C).toString) = some (ac t) := by
    obtain ⟨_, _, _, _, _, h4⟩ := (hG.1.2 t _ ht).2
    exact h4
  have z1 := hH.2.2.2.1
  have z2 := hH.2.2.2.2.1
  have z3 := hS0.1
  obtain ⟨r1, r2⟩ := hRM
  have hbytes : i.toNatClampNeg * 4 ≤ 536870912 := by omega
  have fin : ∀ (cA : ClassId) (H1 : Heap), s.vm.findClass ("[" ++ (FieldType.object C).toString) = some cA → H.push ({ cls := cA, slots := Array.replicate i.toNatClampNeg .null, vm := .none } : Cell) = H1 → HR A D ac K h' H1 := by
    intro cA H1 f1 hH1
    have hcC : cA = ac t := Option.some.inj (f1.symm.trans hfc)
    subst hcC
    refine hH.new ha hH1.symm (by simp) ?_
    show H1[h.2.1]? = some (arrV (ac t) i.toNatClampNeg (fun _ => .null))
    rw [← z1, ← hH1, Array.getElem?_push_size, ← arrV_new]
  refine W_mono fun hu => ?_
  refine W_tight (k := H.size - s.heap.size) (n := hsum H - hsum s.heap) (by omega) (by omega) ?_
  refine W.anew S.1 S.2.1 S.2.2.2.1 (S.2.2.2.2 _ hcl) (va_AO.use (hG.2.1.2.2.2.2.1 _ hov)) rfl hdg rfl i0 hbytes (by omega) (by omega) fun cA kA comp f1 f2 f3 f4 => ?_
  generalize hH1 : H.push ({ cls := cA, slots := Array.replicate i.toNatClampNeg .null, vm := .none } : Cell) = H1
  refine W.widen (k := R.cells) (n := R.slots) (by omega) (by omega) ?_
  show W p l e R s m args below meth c H1 locs R.cells R.slots Q (F0 m (pc + 3) ls (.ref H.size :: rest))
  rw [z1]
  exact kk H1 locs (fin cA H1 f1 hH1) (hS0.push hH1.symm)
theorem c_bast (S : CallFix p m c cc nL s args lw_all own) (hG : GK A D ac K s) (hH : HR A D ac K h H) (hS0 : va_S A H0 H locs) {i v : Int32} {h' : HS} (hp : sC h r 3 i (vp_nar .byte v) = some h') (hdg : decode cc pc = .ok (.bastore, 1))
    (kk : ∀ (H1 : Heap) (locs1 : List Loc), HR A D ac K h' H1 → va_S A H0 H1 locs1 → W p l e R s m args below meth c H1 locs1 cells slots Q (F0 m (pc + 1) ls rest)) : W p l e R s m args below meth c H locs cells slots Q (F0 m pc ls (.int v :: .int i :: va_rf r :: rest)) := by
  obtain ⟨a, n, f, rfl, hr, hi, rfl⟩ := sC_e hp
  have hc : H[a]? = some (arrV (ac 3) n (fun j => .int (f j))) := (hH.1 _ _ hr).2
  refine W.bast S.1 S.2.1 hc ((hG.1.2 3 _ rfl).1 _ _) (fun q => by cases q) (by rw [arrV_size]; exact hi) rfl rfl hdg fun H1 e z oq => ?_
  have e : H1[a]? = some ((arrV (ac 3) n (fun j => .int (f j))).setSlot i.toNatClampNeg (.int (vp_nar .byte v))) := e
  refine kk H1 _ (hH.put hr ?_ z oq (hsum_put hc e z oq)) (hS0.put z oq (hH.1 _ _ hr).1)
  rw [arrV_upd] at e
  exact e
theorem c_zast (S : CallFix p m c cc nL s args lw_all own) (hG : GK A D ac K s) (hH : HR A D ac K h H) (hS0 : va_S A H0 H locs) {i v : Int32} {h' : HS} (hp : sC h r 4 i (vp_nar .boolean v) = some h') (hdg : decode cc pc = .ok (.bastore, 1))
    (kk : ∀ (H1 : Heap) (locs1 : List Loc), HR A D ac K h' H1 → va_S A H0 H1 locs1 → W p l e R s m args below meth c H1 locs1 cells slots Q (F0 m (pc + 1) ls rest)) : W p l e R s m args below meth c H locs cells slots Q (F0 m pc ls (.int v :: .int i :: va_rf r :: rest)) := by
  obtain ⟨a, n, f, rfl, hr, hi, rfl⟩ := sC_e hp
  have hc : H[a]? = some (arrV (ac 4) n (fun j => .int (f j))) := (hH.1 _ _ hr).2
  refine W.zast S.1 S.2.1 hc ((hG.1.2 4 _ rfl).1 _ _) (fun q => by cases q) (by rw [arrV_size]; exact hi) rfl rfl hdg fun H1 e z oq => ?_
  have e : H1[a]? = some ((arrV (ac 4) n (fun j => .int (f j))).setSlot i.toNatClampNeg (.int (vp_nar .boolean v))) := e
  refine kk H1 _ (hH.put hr ?_ z oq (hsum_put hc e z oq)) (hS0.put z oq (hH.1 _ _ hr).1)
  rw [arrV_upd] at e
  exact e
theorem c_cast (S : CallFix p m c cc nL s args lw_all own) (hG : GK A D ac K s) (hH : HR A D ac K h H) (hS0 : va_S A H0 H locs) {i v : Int32} {h' : HS} (hp : sC h r 2 i (vp_nar .char v) = some h') (hdg : decode cc pc = .ok (.castore, 1))
    (kk : ∀ (H1 : Heap) (locs1 : List Loc), HR A D ac K h' H1 → va_S A H0 H1 locs1 → W p l e R s m args below meth c H1 locs1 cells slots Q (F0 m (pc + 1) ls rest)) : W p l e R s m args below meth c H locs cells slots Q (F0 m pc ls (.int v :: .int i :: va_rf r :: rest)) := by
  obtain ⟨a, n, f, rfl, hr, hi, rfl⟩ := sC_e hp
  have hc : H[a]? = some (arrV (ac 2) n (fun j => .int (f j))) := (hH.1 _ _ hr).2
  refine W.cast S.1 S.2.1 hc ((hG.1.2 2 _ rfl).1 _ _) (fun q => by cases q) (by rw [arrV_size]; exact hi) rfl rfl hdg fun H1 e z oq => ?_
  have e : H1[a]? = some ((arrV (ac 2) n (fun j => .int (f j))).setSlot i.toNatClampNeg (.int (vp_nar .char v))) := e
  refine kk H1 _ (hH.put hr ?_ z oq (hsum_put hc e z oq)) (hS0.put z oq (hH.1 _ _ hr).1)
  rw [arrV_upd] at e
  exact e
theorem c_aast (S : CallFix p m c cc nL s args lw_all own) (hG : GK A D ac K s) (hH : HR A D ac K h H) (hS0 : va_S A H0 H locs) (t : Nat) {i : Int32} {v : Option Nat} {h' : HS} (hp : sCR K h r t i v = some h') (hdg : decode cc pc = .ok (.aastore, 1))
    (kk : ∀ (H1 : Heap) (locs1 : List Loc), HR A D ac K h' H1 → va_S A H0 H1 locs1 → W p l e R s m args below meth c H1 locs1 cells slots Q (F0 m (pc + 1) ls rest)) : W p l e R s m args below meth c H locs cells slots Q (F0 m pc ls (va_rf v :: .int i :: va_rf r :: rest)) := by
  obtain ⟨hok, a, n, f, rfl, hr, hi, rfl⟩ := sCR_e hp
  have hc : H[a]? = some (arrV (ac t) n (fun j => va_rf (f j))) := (hH.1 _ _ hr).2
  have hlt : i.toNatClampNeg < n := Nat.not_le.mp fun q => hi (Or.inr q)
  have h0 : ¬ i < 0 := fun q => hi (Or.inl q)
  unfold okIn at hok
  split at hok
  · cases hok
  · rename_i b
    have key : ∃ cv : Cell, H[b]? = some cv ∧ cv.vm = .none ∧ AsgC ac t cv.cls s := by
      split at hok
      · rename_i o ho
        rw [Bool.and_eq_true] at hok
        obtain ⟨r', h1, cell, q1, q2, q3, q4⟩ := hH.cell ho
        exact ⟨cell, q1, q3, by rw [q2]; exact hG.2.2.1 t o.1 hok.1 (of_decide_eq_true hok.2)⟩
      · rename_i q hq
        have h1 : H[b]? = some (vp_cell (ac q.1) q.2) := hH.cell hq
        refine ⟨_, h1, ?_, ?_⟩
        · unfold vp_cell; split <;> rfl
        · have : (vp_cell (ac q.1) q.2).cls = ac q.1 := by unfold vp_cell; split <;> rfl
          rw [this]; exact hG.2.2.2.1 t q.1 hok
      · cases hok
    obtain ⟨cv, k1, k2, kA, kc, kv, comp, ty, g1, g2, g3, g4, g5, g6⟩ := key
    refine W.aast S.1 S.2.1 hc (fun q h => by cases h) (fun h => by cases h) g1 g2 g3 g4 ⟨h0, by rw [arrV_size]; exact hlt⟩ k1 (fun q h => by rw [k2] at h; cases h) g5 g6 rfl rfl hdg fun H1 e z oq => ?_
    have e : H1[a]? = some ((arrV (ac t) n (fun j => va_rf (f j))).setSlot i.toNatClampNeg (va_rf (some b))) := e
    refine kk H1 _ (hH.put hr ?_ z oq (hsum_put hc e z oq)) (hS0.put z oq (hH.1 _ _ hr).1)
    rw [arrV_updR] at e
    exact e
-- references in locals, tests of them
theorem c_aload_n {k4 : Fin 4} {i : Nat} (hx : p.tables.exec = Jvm.exec) (hb : c.code = cc) (hdg : decode cc pc = .ok (.aload_n k4, 1)) (hi : (k4 : Nat) = i) (hl : ls[i]? = some (.val (va_rf r))) (kk : W p l e R s m args below meth c H locs cells slots Q (F0 m (pc + 1) ls (va_rf r :: rest))) : W p l e R s m args below meth c H locs cells slots Q (F0 m pc ls rest) := by
  cases r with
  | none => exact lv_aload_nN hx hb hdg hi hl kk
  | some a => exact lv_aload_n hx hb hdg hi hl kk
theorem c_aload {i : Nat} (hx : p.tables.exec = Jvm.exec) (hb : c.code = cc) (hdg : decode cc pc = .ok (.aload i, 2)) (hl : ls[i]? = some (.val (va_rf r))) (kk : W p l e R s m args below meth c H locs cells slots Q (F0 m (pc + 2) ls (va_rf r :: rest))) : W p l e R s m args below meth c H locs cells slots Q (F0 m pc ls rest) := by
  cases r with
  | none => exact lv_aloadN hx hb hdg hl kk
  | some a => exact lv_aload hx hb hdg hl kk
theorem c_astore_n {k4 : Fin 4} {i : Nat} {lv lv' : List (Nat × Value)} (hx : p.tables.exec = Jvm.exec) (hb : c.code = cc) (hdg : decode cc pc = .ok (.astore_n k4, 1)) (hi : (k4 : Nat) = i) (h : lv_has ls nL lv) (hn : i < nL) (hl : (i, va_rf r) :: lv.filter (fun q => !(q.1 == i) && !(q.1 + 1 == i && q.2.category == 2)) = lv') (kk : ∀ ls' : Array Slot, lv_has ls' nL lv' → W p l e R s m args below meth c H locs cells slots Q (F0 m (pc + 1) ls' rest)) : W p l e R s m args below meth c H locs cells slots Q (F0 m pc ls (va_rf r :: rest)) := by
  cases r with
  | none => exact lv_astore_nN hx hb hdg hi h hn hl kk
  | some a => exact lv_astore_n hx hb hdg hi h hn hl kk
theorem c_astore {i : Nat} {lv lv' : List (Nat × Value)} (hx : p.tables.exec = Jvm.exec) (hb : c.code = cc) (hdg : decode cc pc = .ok (.astore i, 2)) (h : lv_has ls nL lv) (hn : i < nL) (hl : (i, va_rf r) :: lv.filter (fun q => !(q.1 == i) && !(q.1 + 1 == i && q.2.category == 2)) = lv') (kk : ∀ ls' : Array Slot, lv_has ls' nL lv' → W p l e R s m args below meth c H locs cells slots Q (F0 m (pc + 2) ls' rest)) : W p l e R s m args below meth c H locs cells slots Q (F0 m pc ls (va_rf r :: rest)) := by
  cases r with
  | none => exact lv_astoreN hx hb hdg h hn hl kk
  | some a => exact lv_astore hx hb hdg h hn hl kk
theorem c_ifnull {off : Int} {tgt : Nat} (hx : p.tables.exec = Jvm.exec) (hb : c.code = cc) (hdg : decode cc pc = .ok (.ifnull off, 3)) (ht : (pc : Int) + off = (tgt : Int)) (kt : r = none → W p l e R s m args below meth c H locs cells slots Q (F0 m tgt ls rest)) (kf : ¬ r = none → W p l e R s m args below meth c H locs cells slots Q (F0 m (pc + 3) ls rest)) : W p l e R s m args below meth c H locs cells slots Q (F0 m pc ls (va_rf r :: rest)) := by
  cases r with
  | none => exact lv_ifnullN hx hb hdg ht (kt rfl)
  | some a => exact lv_ifnull hx hb hdg (kf (fun q => by cases q))
theorem c_ifnonnull {off : Int} {tgt : Nat} (hx : p.tables.exec = Jvm.exec) (hb : c.code = cc) (hdg : decode cc pc = .ok (.ifnonnull off, 3)) (ht : (pc : Int) + off = (tgt : Int)) (kt : ¬ r = none → W p l e R s m args below meth c H locs cells slots Q (F0 m tgt ls rest)) (kf : r = none → W p l e R s m args below meth c H locs cells slots Q (F0 m (pc + 3) ls rest)) : W p l e R s m args below meth c H locs cells slots Q (F0 m pc ls (va_rf r :: rest)) := by
  cases r with
  | none => exact lv_ifnonnullN hx hb hdg (kf rfl)
  | some a => exact lv_ifnonnull hx hb hdg ht (kt (fun q => by cases q))
end CROWS3

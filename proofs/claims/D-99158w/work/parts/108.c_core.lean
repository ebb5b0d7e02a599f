/-! texts by a wide index, class objects, casts of arrays, copies of arrays -/
set_option maxRecDepth 100000
def fitB (f : Nat → Int32) (sp n : Nat) : Bool := (List.range n).all fun i => fits .byte (.int (f (sp + i)))
def acB (K : KE) (h : HS) (r0 : Option Nat) (sp : Int32) (r1 : Option Nat) (dp n : Int32) : Option HS := match arr K h r0 3 with
  | some (n0, .inl f) => wA h r1 3 fun n1 x => match x with
    | .inl g => if sp < 0 ∨ dp < 0 ∨ n < 0 ∨ n0 < sp.toNatClampNeg + n.toNatClampNeg ∨ n1 < dp.toNatClampNeg + n.toNatClampNeg ∨ fitB f sp.toNatClampNeg n.toNatClampNeg = false then none else some (.inl (va_cpy f g sp.toNatClampNeg dp.toNatClampNeg n.toNatClampNeg))
    | _ => none
  | _ => none
def okAll (K : KE) (h : HS) (f : Nat → Option Nat) (sp n : Nat) : Bool := (List.range n).all fun i => match f (sp + i) with
  | none => true
  | some y => okIn K h 5 (some y)
def acR (K : KE) (h : HS) (r0 : Option Nat) (sp : Int32) (r1 : Option Nat) (dp n : Int32) : Option HS := match arr K h r0 5 with
  | some (n0, .inr (.inr (.inr (.inr f)))) => wA h r1 5 fun n1 x => match x with
    | .inr (.inr (.inr (.inr g))) => if sp < 0 ∨ dp < 0 ∨ n < 0 ∨ n0 < sp.toNatClampNeg + n.toNatClampNeg ∨ n1 < dp.toNatClampNeg + n.toNatClampNeg ∨ okAll K h f sp.toNatClampNeg n.toNatClampNeg = false then none else some (.inr (.inr (.inr (.inr (va_cpy f g sp.toNatClampNeg dp.toNatClampNeg n.toNatClampNeg)))))
    | _ => none
  | _ => none
/-- an array of this tag, or null -/
def ckA (K : KE) (h : HS) (r : Option Nat) (t : Nat) : Option Unit := match r with
  | none => none
  | some a => match rd K h a with
    | some (.inl q) => if q.1 = t then some () else none
    | _ => none
theorem ckA_e {K : KE} {h : HS} {r : Option Nat} {t : Nat} {u : Unit} (hv : ckA K h r t = some u) : ∃ a q, r = some a ∧ rd K h a = some (.inl (t, q)) := by
  unfold ckA at hv
  split at hv
  · cases hv
  · rename_i a
    split at hv
    · rename_i q hq
      split at hv
      · rename_i ht
        exact ⟨a, q.2, rfl, by rw [hq, ← ht]⟩
      · cases hv
    · cases hv
section CROWS8
variable {p : Program} {l : Launch} {e : Env} {R : Room} {s : State} {m : MethodId} {args : Array Value} {below : List Frame} {meth : Method} {c : Code} {H H0 : Heap} {locs : List Loc} {cells slots : Nat} {Q : State → Prop} {cc : ByteArray} {nL pc : Nat} {ls : Array Slot} {rest st0 : List Value} {A : Nat → Prop} {D : va_G} {ac : Nat → ClassId} {K : KE} {h : HS} {own C : String} {index : Nat} {r : Option Nat}
theorem c_ldcSW (S : CallFix p m c cc nL s args lw_all own) (hG : GK A D ac K s) {i : Nat} {tx : String} (hz : (i, own, index, tx) ∈ txL) (hdg : decode cc pc = .ok (.ldc_w index, 3)) (kk : W p l e R s m args below meth c H locs cells slots Q (F0 m (pc + 3) ls (va_rf (K.2.1 i) :: rest))) : W p l e R s m args below meth c H locs cells slots Q (F0 m pc ls rest) := by
  obtain ⟨a, h1, h2⟩ := hG.2.2.2.2.2.1 _ hz
  rw [h1] at kk
  intro T hT X
  obtain ⟨t, a1, b1⟩ := kk T hT X
  exact ⟨t, X.ldcStringW S.1 (own := own) (text := tx) (index := index) (a := a) S.2.2.2.1 h2.1 h2.2 (g := F0 m pc ls rest) rfl (by rw [S.2.1]; exact hdg) t a1, b1⟩
theorem c_ldcM (S : CallFix p m c cc nL s args lw_all own) (hG : GK A D ac K s) (hlink : (Cond.classLink own index "[Ljava/lang/Object;").before args s = true) (hdg : decode cc pc = .ok (.ldc index, 2)) (kk : W p l e R s m args below meth c H locs cells slots Q (F0 m (pc + 2) ls (va_rf (K.2.1 7) :: rest))) : W p l e R s m args below meth c H locs cells slots Q (F0 m pc ls rest) := by
  obtain ⟨mi, h1, h2⟩ := hG.2.2.2.2.2.2.1
  rw [h1] at kk
  exact va_ldcM S.1 S.2.1 S.2.2.2.1 hlink h2 hdg kk
theorem c_castA (S : CallFix p m c cc nL s args lw_all own) (hG : GK A D ac K s) (hH : HR A D ac K h H) {nm : String} (hlink : Cond.classLink own index nm ∈ lw_all) (t : Nat) (hnm : s.vm.findClass nm = some (ac t)) {u : Unit} (hv : ckA K h r t = some u) (hdg : decode cc pc = .ok (.checkcast index, 3)) (kk : W p l e R s m args below meth c H locs cells slots Q (F0 m (pc + 3) ls (va_rf r :: rest))) : W p l e R s m args below meth c H locs cells slots Q (F0 m pc ls (va_rf r :: rest)) := by
  obtain ⟨a, q, rfl, hq⟩ := ckA_e hv
  exact va_castA (ws := [(a, toE ac (.inl (t, q)))]) (D := D) (cl := CL) S.1 S.2.1 S.2.2.2.1 (S.2.2.2.2 _ hlink) (fun k z hz => by cases k with | zero => cases hz; exact hH.cell hq | succ k => simp at hz) 0 rfl hnm hdg kk
theorem c_nn {z : Int32} (hz : ¬ z < 0) : z.toInt = (z.toNatClampNeg : Int) := by
  have hz0 : (0 : Int) ≤ z.toInt := by
    have := Int32.not_lt.mp hz
    simpa using Int32.le_iff_toInt_le.mp this
  show z.toInt = ((z.toInt.toNat : Nat) : Int)
  omega
theorem hsum_set {a : Nat} {cell cell1 : Cell} (q1 : H[a]? = some cell) (hs : cell1.slots.size = cell.slots.size) : hsum (H.setIfInBounds a cell1) = hsum H := by
  refine hsum_eq (by simp) fun q c c1 h1 h2 => ?_
  by_cases hq : a = q
  · subst hq
    rw [q1] at h1
    cases h1
    have hl : a < H.size := (Array.getElem?_eq_some_iff.mp q1).1
    rw [Array.getElem?_setIfInBounds, if_pos rfl, if_pos hl] at h2
    cases h2
    exact hs
  · rw [Array.getElem?_setIfInBounds, if_neg hq, h1] at h2
    cases h2
    rfl
theorem c_copyB (S : CallFix p m c cc nL s args lw_all own) (hG : GK A D ac K s) (hH : HR A D ac K h H) (hS : va_S A H0 H locs) (hsz : ls.size = nL) (hlink : Cond.methodLink own index arraycopyName ∈ lw_all) (hnat : Cond.native arraycopyName ∈ lw_all) (hstat : Cond.static arraycopyName ∈ lw_all) (hini : Cond.initialized "java/lang/System" ∈ lw_all) {r0 r1 : Option Nat} {sp dp n : Int32} {h' : HS} (hp : acB K h r0 sp r1 dp n = some h') (hframes : 1 ≤ R.frames) (hlocals : (rest.map fun v => v.category).sum + (nativeFrameWords "java/lang/System" "arraycopy" 5 + 11) ≤ R.locals) (hdg : decode cc pc = .ok (.invokestatic index, 3))
    (kk : ∀ (H1 : Heap) (locs1 : List Loc), HR A D ac K h' H1 → va_S A H0 H1 locs1 → W p l e R s m args below meth c H1 locs1 cells slots Q (F0 m (pc + 3) ls rest)) : W p l e R s m args below meth c H locs cells slots Q (F0 m pc ls (.int n :: .int dp :: va_rf r1 :: .int sp :: va_rf r0 :: rest)) := by
  unfold acB at hp
  split at hp
  · rename_i n0 f hq
    obtain ⟨a0, rfl, hr0⟩ := arr_e hq
    obtain ⟨a, n1, x, y, rfl, hr1, e3, rfl⟩ := wA_e hp
    split at e3
    · rename_i g
      split at e3
      · cases e3
      · rename_i hg
        cases e3
        have h1 : ¬ sp < 0 := fun z => hg (Or.inl z)
        have h2 : ¬ dp < 0 := fun z => hg (Or.inr (Or.inl z))
        have h3 : ¬ n < 0 := fun z => hg (Or.inr (Or.inr (Or.inl z)))
        have h4 : sp.toNatClampNeg + n.toNatClampNeg ≤ n0 := Nat.not_lt.mp fun z => hg (Or.inr (Or.inr (Or.inr (Or.inl z))))
        have h5 : dp.toNatClampNeg + n.toNatClampNeg ≤ n1 := Nat.not_lt.mp fun z => hg (Or.inr (Or.inr (Or.inr (Or.inr (Or.inl z)))))
        have h6 : fitB f sp.toNatClampNeg n.toNatClampNeg = true := by
          cases hok : fitB f sp.toNatClampNeg n.toNatClampNeg with
          | true => rfl
          | false => exact absurd (Or.inr (Or.inr (Or.inr (Or.inr (Or.inr hok))))) hg
        intro T hT X
        have hc0 : H[a0]? = some (arrV (ac 3) n0 (fun j => .int (f j))) := hH.cell hr0
        have hc1 : H[a]? = some (arrV (ac 3) n1 (fun j => .int (g j))) := (hH.1 _ _ hr1).2
        obtain ⟨-, k0, hk0, cm0, hkk0⟩ := (hG.1.2 3 _ rfl).1 n0 (fun j => .int (f j))
        obtain ⟨-, k1, hk1, cm1, hkk1⟩ := (hG.1.2 3 _ rfl).1 n1 (fun j => .int (g j))
        obtain ⟨vm', X', step⟩ := X.arraycopy S.1 S.2.2.2.1 (S.2.2.2.2 _ hlink) (S.2.2.2.2 _ hnat) (S.2.2.2.2 _ hstat) (S.2.2.2.2 _ hini) (src := a0) (dst := a) (cs := arrV (ac 3) n0 (fun j => .int (f j))) (cd := arrV (ac 3) n1 (fun j => .int (g j))) (srcPos := sp) (destPos := dp) (n := n) (by rw [hT]; exact hc0) (by rw [hT]; exact hc1)
          (fun _ h => by cases h) (fun _ h => by cases h) (fun h => by cases h) (fun h => by cases h) hk0 hk1 hkk0 hkk1 (by simp [refKind]) h1 h2 h3
          (by rw [c_nn h1, c_nn h3, arrV_size]; omega)
          (by rw [c_nn h2, c_nn h3, arrV_size]; omega)
          (fun vm₁ _ i hi => by
            have e : (arrV (ac 3) n0 (fun j => Value.int (f j))).slots.getD (sp.toNatClampNeg + i) .null = .int (f (sp.toNatClampNeg + i)) := by
              rw [Array.getD_eq_getD_getElem?, arrV_read _ _ (by omega)]
              rfl
            refine ⟨?_, ?_⟩
            · rw [e]; exact List.all_eq_true.mp h6 i (List.mem_range.mpr hi)
            · rw [e]; exact trivial)
          (g := F0 m pc ls (.int n :: .int dp :: .ref a :: .int sp :: .ref a0 :: rest)) rfl (by rw [S.2.2.1]; exact hsz) (rest := rest) rfl (by rw [S.2.1]; exact hdg) hframes (by show 2 * 0 + _ + _ ≤ _; omega)
        have e1 : copied (arrV (ac 3) n0 (fun j => .int (f j))) (arrV (ac 3) n1 (fun j => .int (g j))) sp dp n = arrV (ac 3) n1 (fun j => .int (va_cpy f g sp.toNatClampNeg dp.toNatClampNeg n.toNatClampNeg j)) := va_copied (fun z => .int z) (ac 3) (ac 3) f g h4
        rw [e1] at X' step
        have hl : a < H.size := (Array.getElem?_eq_some_iff.mp hc1).1
        generalize hcn : arrV (ac 3) n1 (fun j => Value.int (va_cpy f g sp.toNatClampNeg dp.toNatClampNeg n.toNatClampNeg j)) = cn at *
        have hheap : ((T.setVm vm').setCell a cn).heap = H.setIfInBounds a cn := by rw [← hT]; rfl
        have oq : ∀ q : Nat, q ≠ a → (H.setIfInBounds a cn)[q]? = H[q]? := fun q hq => by simp [Array.getElem?_setIfInBounds, Ne.symm hq]
        have hself : (H.setIfInBounds a cn)[a]? = some cn := by simp [Array.getElem?_setIfInBounds, hl]
        have hHn := hH.put (e1 := .inl (3, n1, .inl (va_cpy f g sp.toNatClampNeg dp.toNatClampNeg n.toNatClampNeg))) hr1 (show va_at D CL (a, toE ac (.inl (3, n1, .inl (va_cpy f g sp.toNatClampNeg dp.toNatClampNeg n.toNatClampNeg)))) (H.setIfInBounds a cn) from (by show (H.setIfInBounds a cn)[a]? = some (arrV (ac 3) n1 (fun j => Value.int (va_cpy f g sp.toNatClampNeg dp.toNatClampNeg n.toNatClampNeg j))); rw [hcn]; exact hself)) (by simp) oq (hsum_set hc1 (by rw [← hcn, arrV_size, arrV_size]))
        obtain ⟨t, a1, b1⟩ := kk _ _ hHn ⟨by simp; exact hS.1, fun q g1 g2 => by
            rw [oq q (fun e => g2 (by rw [e]; exact (hH.1 _ _ hr1).1))]
            exact hS.2.1 q g1 g2, fun q hq => by
            rcases List.mem_append.mp hq with h | h
            · exact hS.2.2 q h
            · obtain ⟨z, -, hz⟩ := List.mem_map.mp h
              rw [← hz]
              exact (hH.1 _ _ hr1).1⟩ _ hheap X'
        exact ⟨t, step t a1, b1⟩
    · cases e3
  · cases hp
theorem c_copyR (S : CallFix p m c cc nL s args lw_all own) (hG : GK A D ac K s) (hH : HR A D ac K h H) (hS : va_S A H0 H locs) (hsz : ls.size = nL) (hlink : Cond.methodLink own index arraycopyName ∈ lw_all) (hnat : Cond.native arraycopyName ∈ lw_all) (hstat : Cond.static arraycopyName ∈ lw_all) (hini : Cond.initialized "java/lang/System" ∈ lw_all) {r0 r1 : Option Nat} {sp dp n : Int32} {h' : HS} (hp : acR K h r0 sp r1 dp n = some h') (hframes : 1 ≤ R.frames) (hlocals : (rest.map fun v => v.category).sum + (nativeFrameWords "java/lang/System" "arraycopy" 5 + 11) ≤ R.locals) (hdg : decode cc pc = .ok (.invokestatic index, 3))
    (kk : ∀ (H1 : Heap) (locs1 : List Loc), HR A D ac K h' H1 → va_S A H0 H1 locs1 → W p l e R s m args below meth c H1 locs1 cells slots Q (F0 m (pc + 3) ls rest)) : W p l e R s m args below meth c H locs cells slots Q (F0 m pc ls (.int n :: .int dp :: va_rf r1 :: .int sp :: va_rf r0 :: rest)) := by
  unfold acR at hp
  split at hp
  · rename_i n0 f hq
    obtain ⟨a0, rfl, hr0⟩ := arr_e hq
    obtain ⟨a, n1, x, y, rfl, hr1, e3, rfl⟩ := wA_e hp
    split at e3
    · rename_i g
      split at e3
      · cases e3
      · rename_i hg
        cases e3
        have h1 : ¬ sp < 0 := fun z => hg (Or.inl z)
        have h2 : ¬ dp < 0 := fun z => hg (Or.inr (Or.inl z))
        have h3 : ¬ n < 0 := fun z => hg (Or.inr (Or.inr (Or.inl z)))
        have h4 : sp.toNatClampNeg + n.toNatClampNeg ≤ n0 := Nat.not_lt.mp fun z => hg (Or.inr (Or.inr (Or.inr (Or.inl z))))
        have h5 : dp.toNatClampNeg + n.toNatClampNeg ≤ n1 := Nat.not_lt.mp fun z => hg (Or.inr (Or.inr (Or.inr (Or.inr (Or.inl z)))))
        have h6 : okAll K h f sp.toNatClampNeg n.toNatClampNeg = true := by
          cases hok : okAll K h f sp.toNatClampNeg n.toNatClampNeg with
          | true => rfl
          | false => exact absurd (Or.inr (Or.inr (Or.inr (Or.inr (Or.inr hok))))) hg
        intro T hT X
        have hc0 : H[a0]? = some (arrV (ac 5) n0 (fun j => va_rf (f j))) := hH.cell hr0
        have hc1 : H[a]? = some (arrV (ac 5) n1 (fun j => va_rf (g j))) := (hH.1 _ _ hr1).2
        obtain ⟨-, k0, hk0, cm0, hkk0⟩ := (hG.1.2 5 _ rfl).1 n0 (fun j => va_rf (f j))
        obtain ⟨-, k1, hk1, cm1, hkk1⟩ := (hG.1.2 5 _ rfl).1 n1 (fun j => va_rf (g j))
        have hel : ∀ i : Nat, i < n.toNatClampNeg → ∀ y : Nat, f (sp.toNatClampNeg + i) = some y → ∃ cv : Cell, H[y]? = some cv ∧ cv.vm = .none ∧ AsgC ac 5 cv.cls s := by
          intro i hi y hy
          have hok := List.all_eq_true.mp h6 i (List.mem_range.mpr hi)
          rw [hy] at hok
          dsimp only at hok
          unfold okIn at hok
          dsimp only at hok
          split at hok
          · rename_i o ho
            rw [Bool.and_eq_true] at hok
            obtain ⟨r', q0, cell, q1, q2, q3, q4⟩ := hH.cell ho
            exact ⟨cell, q1, q3, by rw [q2]; exact hG.2.2.1 5 o.1 hok.1 (of_decide_eq_true hok.2)⟩
          · rename_i q hq
            simp [asgA] at hok
          · cases hok
        obtain ⟨vm', X', step⟩ := X.arraycopy S.1 S.2.2.2.1 (S.2.2.2.2 _ hlink) (S.2.2.2.2 _ hnat) (S.2.2.2.2 _ hstat) (S.2.2.2.2 _ hini) (src := a0) (dst := a) (cs := arrV (ac 5) n0 (fun j => va_rf (f j))) (cd := arrV (ac 5) n1 (fun j => va_rf (g j))) (srcPos := sp) (destPos := dp) (n := n) (by rw [hT]; exact hc0) (by rw [hT]; exact hc1)
          (fun _ h => by cases h) (fun _ h => by cases h) (fun h => by cases h) (fun h => by cases h) hk0 hk1 hkk0 hkk1 rfl h1 h2 h3
          (by rw [c_nn h1, c_nn h3, arrV_size]; omega)
          (by rw [c_nn h2, c_nn h3, arrV_size]; omega)
          (fun vm₁ hal i hi => by
            have e : (arrV (ac 5) n0 (fun j => va_rf (f j))).slots.getD (sp.toNatClampNeg + i) .null = va_rf (f (sp.toNatClampNeg + i)) := by
              rw [Array.getD_eq_getD_getElem?, arrV_read _ _ (by omega)]
              rfl
            rw [e]
            cases hy : f (sp.toNatClampNeg + i) with
            | none => exact ⟨rfl, trivial⟩
            | some y =>
              obtain ⟨cellV, g1, g2, kA, kc, kv, comp, ty, v1, v2, v3, v4, v5, v6⟩ := hel i hi y hy
              cases hk1.symm.trans v1
              cases hkk1.symm.trans v2
              obtain ⟨kC', hkC', -⟩ := hal.2.2 _ _ v5
              obtain ⟨kE', hkE', -⟩ := hal.2.2 _ _ v4
              refine ⟨rfl, cellV, (show T.heap[y]? = some cellV by rw [hT]; exact g1), (fun q h => by rw [g2] at h; cases h), ⟨kC', hkC'⟩, ?_, ?_⟩
              · exact ⟨kE', hkE'⟩
              · show vm₁.assignable _ _ = true
                rw [hal.assignable]
                exact v6)
          (g := F0 m pc ls (.int n :: .int dp :: .ref a :: .int sp :: .ref a0 :: rest)) rfl (by rw [S.2.2.1]; exact hsz) (rest := rest) rfl (by rw [S.2.1]; exact hdg) hframes (by show 2 * 0 + _ + _ ≤ _; omega)
        have e1 : copied (arrV (ac 5) n0 (fun j => va_rf (f j))) (arrV (ac 5) n1 (fun j => va_rf (g j))) sp dp n = arrV (ac 5) n1 (fun j => va_rf (va_cpy f g sp.toNatClampNeg dp.toNatClampNeg n.toNatClampNeg j)) := va_copied (fun z => va_rf z) (ac 5) (ac 5) f g h4
        rw [e1] at X' step
        have hl : a < H.size := (Array.getElem?_eq_some_iff.mp hc1).1
        generalize hcn : arrV (ac 5) n1 (fun j => va_rf (va_cpy f g sp.toNatClampNeg dp.toNatClampNeg n.toNatClampNeg j)) = cn at *
        have hheap : ((T.setVm vm').setCell a cn).heap = H.setIfInBounds a cn := by rw [← hT]; rfl
        have oq : ∀ q : Nat, q ≠ a → (H.setIfInBounds a cn)[q]? = H[q]? := fun q hq => by simp [Array.getElem?_setIfInBounds, Ne.symm hq]
        have hself : (H.setIfInBounds a cn)[a]? = some cn := by simp [Array.getElem?_setIfInBounds, hl]
        have hHn := hH.put (e1 := .inl (5, n1, .inr (.inr (.inr (.inr (va_cpy f g sp.toNatClampNeg dp.toNatClampNeg n.toNatClampNeg)))))) hr1 (show va_at D CL (a, toE ac (.inl (5, n1, .inr (.inr (.inr (.inr (va_cpy f g sp.toNatClampNeg dp.toNatClampNeg n.toNatClampNeg))))))) (H.setIfInBounds a cn) from (by show (H.setIfInBounds a cn)[a]? = some (arrV (ac 5) n1 (fun j => va_rf (va_cpy f g sp.toNatClampNeg dp.toNatClampNeg n.toNatClampNeg j))); rw [hcn]; exact hself)) (by simp) oq (hsum_set hc1 (by rw [← hcn, arrV_size, arrV_size]))
        obtain ⟨t, a1, b1⟩ := kk _ _ hHn ⟨by simp; exact hS.1, fun q g1 g2 => by
            rw [oq q (fun e => g2 (by rw [e]; exact (hH.1 _ _ hr1).1))]
            exact hS.2.1 q g1 g2, fun q hq => by
            rcases List.mem_append.mp hq with h | h
            · exact hS.2.2 q h
            · obtain ⟨z, -, hz⟩ := List.mem_map.mp h
              rw [← hz]
              exact (hH.1 _ _ hr1).1⟩ _ hheap X'
        exact ⟨t, step t a1, b1⟩
    · cases e3
  · cases hp
/-- getClass() of an array of objects -/
theorem c_getC (S : CallFix p m c cc nL s args lw_all own) (hG : GK A D ac K s) (hH : HR A D ac K h H) (hsz : ls.size = nL) (hlink : Cond.methodLink own index ⟨"java/lang/Object", "getClass", "()Ljava/lang/Class;"⟩ ∈ lw_all) (hdecl : Cond.declares ⟨"java/lang/Object", "getClass", "()Ljava/lang/Class;"⟩ ∈ lw_tbl) (hsel : Cond.selects "[Ljava/lang/Object;" ⟨"java/lang/Object", "getClass", "()Ljava/lang/Class;"⟩ ⟨"java/lang/Object", "getClass", "()Ljava/lang/Class;"⟩ ∈ lw_all) (hinst : Cond.instanceMethod ⟨"java/lang/Object", "getClass", "()Ljava/lang/Class;"⟩ ∈ lw_all) (hnat : Cond.native ⟨"java/lang/Object", "getClass", "()Ljava/lang/Class;"⟩ ∈ lw_all) {u : Unit} (hv : ckA K h r 5 = some u) (hframes : 1 ≤ R.frames) (hlocals : (rest.map fun v => v.category).sum + 14 ≤ R.locals) (hdg : decode cc pc = .ok (.invokevirtual index, 3)) (kk : W p l e R s m args below meth c H locs cells slots Q (F0 m (pc + 3) ls (va_rf (K.2.1 7) :: rest))) : W p l e R s m args below meth c H locs cells slots Q (F0 m pc ls (va_rf r :: rest)) := by
  obtain ⟨a, q, rfl, hq⟩ := ckA_e hv
  obtain ⟨mi, h1, h2⟩ := hG.2.2.2.2.2.2.1
  rw [h1] at kk
  have hc : H[a]? = some (vp_cell (ac 5) q) := hH.cell hq
  have hfc : s.vm.findClass "[Ljava/lang/Object;" = some (ac 5) := by
    obtain ⟨_, _, _, _, _, h4⟩ := (hG.1.2 5 _ rfl).2
    exact h4
  refine va_getC S.1 S.2.1 (by rw [S.2.2.1]; exact hsz.symm) S.2.2.2.1 (S.2.2.2.2 _ hlink) (va_Nw.use rfl (hG.2.1.2.2.1 _ hdecl)) (S.2.2.2.2 _ hsel) (S.2.2.2.2 _ hinst) (S.2.2.2.2 _ hnat) h2 ⟨_, hc, ?_, ?_⟩ hframes hlocals hdg kk
  · unfold vp_cell; split <;> rfl
  · have : (vp_cell (ac 5) q).cls = ac 5 := by unfold vp_cell; split <;> rfl
    rw [this]; exact hfc
end CROWS8

/-! arrays of arrays, texts by a wide index, class objects, copies -/
set_option maxRecDepth 100000
theorem outerC_arrV (c : ClassId) (N h0 : Nat) : ∀ i, Jvm.Free.Multi.outerC c N h0 i = arrV c N (fun j => va_rf (if j < i then some (h0 + 1 + j) else none))
  | 0 => by
    have : (fun j : Nat => va_rf (if j < 0 then some (h0 + 1 + j) else none)) = fun _ => Value.null := by funext j; simp [va_rf]
    rw [this, ← arrV_new]; rfl
  | i + 1 => by
    show (Jvm.Free.Multi.outerC c N h0 i).setSlot i (.ref (h0 + 1 + i)) = _
    rw [outerC_arrV c N h0 i]
    have := arrV_updR c N i (fun j => if j < i then some (h0 + 1 + j) else none) (some (h0 + 1 + i))
    refine Eq.trans this ?_
    congr 1
    funext q
    by_cases hq : q = i
    · subst hq; simp [va_up]
    · by_cases h2 : q < i
      · have h3 : q < i + 1 := by omega
        simp [va_up, hq, h2, h3]
      · have h3 : ¬ q < i + 1 := by omega
        simp [va_up, hq, h2, h3]
theorem foldl_sum (L : List Cell) : ∀ n : Nat, L.foldl (fun n c => n + c.slots.size) n = n + (L.map (fun c => c.slots.size)).sum := by
  induction L with
  | nil => intro n; simp
  | cons a L ih => intro n; simp [ih, Nat.add_assoc]
/-- an array of n arrays of k numbers: tag t of the outer, t - 8 of the inner ones -/
def nMx (t : Nat) : (Nat → Int32) ⊕ (Nat → Int64) ⊕ (Nat → UInt32) ⊕ (Nat → UInt64) ⊕ (Nat → Option Nat) := if t = 8 then .inl (fun _ => 0) else .inr (.inl (fun _ => 0))
def nM (K : KE) (h : HS) (t : Nat) (n k : Int32) : Option HS := if n < 0 ∨ k < 0 ∨ 1000 < n.toNatClampNeg ∨ 1000 < k.toNatClampNeg ∨ K.2.2.1 < h.2.1 + 1 + n.toNatClampNeg ∨ K.2.2.2 < h.2.2 + n.toNatClampNeg + n.toNatClampNeg * k.toNatClampNeg then none else
  some (fun a => if a = h.2.1 then some (.inl (t, n.toNatClampNeg, .inr (.inr (.inr (.inr (fun j => if j < n.toNatClampNeg then some (h.2.1 + 1 + j) else none)))))) else if h.2.1 < a ∧ a ≤ h.2.1 + n.toNatClampNeg then some (.inl (t - 8, k.toNatClampNeg, nMx t)) else h.1 a, h.2.1 + 1 + n.toNatClampNeg, h.2.2 + n.toNatClampNeg + n.toNatClampNeg * k.toNatClampNeg)
section CROWS7
variable {p : Program} {l : Launch} {e : Env} {R : Room} {s : State} {m : MethodId} {args : Array Value} {below : List Frame} {meth : Method} {c : Code} {H H0 : Heap} {locs : List Loc} {cells slots : Nat} {Q : State → Prop} {cc : ByteArray} {nL pc : Nat} {ls : Array Slot} {rest st0 : List Value} {A : Nat → Prop} {D : va_G} {ac : Nat → ClassId} {K : KE} {h : HS} {own C : String} {index : Nat} {r : Option Nat}
theorem stand_book {T : State} (X : Stand p l e R s m args below meth c T locs cells slots) : hsum T.heap = T.slotsUsed := by
  have h := X.book
  unfold State.slotsTrue at h
  have h1 : T.slotsUsed = T.heap.foldl (fun n c => n + c.slots.size) 0 := by simpa using h
  rw [h1, ← Array.foldl_toList, foldl_sum]
  unfold hsum
  omega
theorem c_multi (S : CallFix p m c cc nL s args lw_all own) (hG : GK A D ac K s) (hH : HR A D ac K h H) (hS0 : va_S A s.heap H locs) (hRM : RM K s R) (t : Nat) {ty : FieldType} (htO : (TY ac)[t]? = some (ac t, .array ty)) (htI : (TY ac)[t - 8]? = some (ac (t - 8), ty)) (hneI : va_RA s (ac (t - 8)) ty → s.vm.findClass ("[" ++ ty.toString) = some (ac (t - 8))) (hbz : componentBytes ty ≤ 8) (hdf : fits ty (defaultValue ty) = true) (hdd : (defaultValue ty).isDefault = true) (hst : (FieldType.array ty).toString = "[" ++ ty.toString) (hcell : ∀ n : Nat, vp_cell (ac (t - 8)) (n, nMx t) = arrV (ac (t - 8)) n (fun _ => defaultValue ty)) (hcl : Cond.classLink own index ("[" ++ (FieldType.array ty).toString) ∈ lw_all) (hov : Cond.arrayOver (.array ty) ∈ lw_tbl) (harr : Cond.arrayClass ty ∈ lw_all) {n k : Int32} {h' : HS} (ha : nM K h t n k = some h') (hdg : decode cc pc = .ok (.multianewarray index 2, 4))
    (kk : ∀ (H1 : Heap) (locs1 : List Loc), HR A D ac K h' H1 → va_S A s.heap H1 locs1 → W p l e R s m args below meth c H1 locs1 R.cells R.slots Q (F0 m (pc + 4) ls (va_rf (some h.2.1) :: rest))) : W p l e R s m args below meth c H locs R.cells R.slots Q (F0 m pc ls (.int k :: .int n :: rest)) := by
  unfold nM at ha
  split at ha
  · cases ha
  rename_i hg
  cases ha
  have g0 : ¬ n < 0 := fun z => hg (Or.inl z)
  have g1 : ¬ k < 0 := fun z => hg (Or.inr (Or.inl z))
  have g2 : n.toNatClampNeg ≤ 1000 := Nat.not_lt.mp fun z => hg (Or.inr (Or.inr (Or.inl z)))
  have g3 : k.toNatClampNeg ≤ 1000 := Nat.not_lt.mp fun z => hg (Or.inr (Or.inr (Or.inr (Or.inl z))))
  have g4 : h.2.1 + 1 + n.toNatClampNeg ≤ K.2.2.1 := Nat.not_lt.mp fun z => hg (Or.inr (Or.inr (Or.inr (Or.inr (Or.inl z)))))
  have g5 : h.2.2 + n.toNatClampNeg + n.toNatClampNeg * k.toNatClampNeg ≤ K.2.2.2 := Nat.not_lt.mp fun z => hg (Or.inr (Or.inr (Or.inr (Or.inr (Or.inr z)))))
  have z1 := hH.2.2.2.1
  have z2 := hH.2.2.2.2.1
  have z3 := hS0.1
  obtain ⟨r1, r2⟩ := hRM
  generalize hN : n.toNatClampNeg = N at *
  generalize hM : k.toNatClampNeg = M at *
  refine W_mono fun hu => ?_
  refine W_tight (k := H.size - s.heap.size) (n := hsum H - hsum s.heap) (by omega) (by omega) ?_
  intro T hT X
  obtain ⟨vm₁, cA, comp, hW, hfA, hfC, hO, hI, X1, step⟩ := X.multianewarray2F S.1 S.2.2.2.1 (S.2.2.2.2 _ hcl) (show (Cond.arrayOver (.array ty)).before args s = true from hG.2.1.2.2.2.2.2.1 _ hov) (S.2.2.2.2 _ harr) (g := F0 m pc ls (.int k :: .int n :: rest)) rfl (by rw [S.2.1]; exact hdg) rfl g0 g1 (by rw [hN]; omega) (by rw [hM]; exact Nat.le_trans (Nat.mul_le_mul g3 hbz) (by decide)) (by rw [hM]; omega) hdf hdd (by rw [hN]; omega) (by rw [hN, hM]; omega)
  rw [hN, hM] at X1 step
  have hcA : cA = ac t := by
    have e1 : s.vm.findClass ("[" ++ (FieldType.array ty).toString) = some (ac t) := (hG.1.2 t _ htO).2
    exact Option.some.inj (hfA.symm.trans e1)
  have hcI : comp = ac (t - 8) := by
    have e1 := hneI (hG.1.2 (t - 8) _ htI).2
    rw [hst] at hfC
    exact Option.some.inj (hfC.symm.trans e1)
  subst hcA
  subst hcI
  have f0 := Jvm.Free.Multi.fill_facts (T.setVm vm₁) (ac t) (ac (t - 8)) N M (defaultValue ty) N
  have fi := Jvm.Free.Multi.fill_inner (T.setVm vm₁) (ac t) (ac (t - 8)) N M (defaultValue ty) N
  have fo := fun (a : Nat) (q : a < T.heap.size) => Jvm.Free.Multi.fill_old (T.setVm vm₁) (ac t) (ac (t - 8)) N M (defaultValue ty) (a := a) q N
  have hb1 := stand_book X1
  have hb0 := stand_book X
  generalize hF : Jvm.Free.Multi.fill (T.setVm vm₁) (ac t) (ac (t - 8)) N M (defaultValue ty) N = TF at *
  obtain ⟨f1, f2, f3, f4⟩ := f0
  have f1 : TF.heap.size = T.heap.size + 1 + N := f1
  have f2 : TF.heap[T.heap.size]? = some (Jvm.Free.Multi.outerC (ac t) N T.heap.size N) := f2
  have f4 : TF.slotsUsed = T.slotsUsed + N + N * M := f4
  have fi : ∀ j, j < N → TF.heap[T.heap.size + 1 + j]? = some (Jvm.Free.Multi.innerC (ac (t - 8)) M (defaultValue ty)) := fi
  have fo : ∀ a : Nat, a < T.heap.size → TF.heap[a]? = T.heap[a]? := fo
  rw [hT, z1] at f1 f2 fi fo
  rw [hT] at hb0
  have hHn : HR A D ac K (fun a => if a = h.2.1 then some (.inl (t, N, .inr (.inr (.inr (.inr (fun j => if j < N then some (h.2.1 + 1 + j) else none)))))) else if h.2.1 < a ∧ a ≤ h.2.1 + N then some (.inl (t - 8, M, nMx t)) else h.1 a, h.2.1 + 1 + N, h.2.2 + N + N * M) TF.heap := by
    refine ⟨fun a e0 he => ?_, fun a e0 he => ?_, fun q hq => hH.2.2.1 q (by have : h.2.1 + 1 + N ≤ q := hq; omega), f1, by rw [hb1, f4, ← hb0, z2], g4, g5⟩
    · dsimp only at he
      split at he
      · rename_i hq
        subst hq
        cases he
        refine ⟨hH.2.2.1 _ (Nat.le_refl _), ?_⟩
        show TF.heap[h.2.1]? = some (arrV (ac t) N (fun j => va_rf (if j < N then some (h.2.1 + 1 + j) else none)))
        rw [f2, outerC_arrV]
      · split at he
        · rename_i hq
          cases he
          refine ⟨hH.2.2.1 _ (by omega), ?_⟩
          show TF.heap[a]? = some (vp_cell (ac (t - 8)) (M, nMx t))
          have := fi (a - h.2.1 - 1) (by omega)
          rw [show h.2.1 + 1 + (a - h.2.1 - 1) = a by omega] at this
          rw [this, hcell, ← arrV_new]
          rfl
        · have q1 := (hH.1 a e0 he).2
          exact ⟨(hH.1 a e0 he).1, q1.kept (fo a (by rw [← z1]; exact q1.lt))⟩
    · have q1 := (hH.2.1 a e0 he).2
      exact ⟨(hH.2.1 a e0 he).1, q1.kept (fo a (by rw [← z1]; exact q1.lt))⟩
  have hSn : va_S A s.heap TF.heap locs := ⟨by rw [f1]; omega, fun x h1 h2 => (fo x (by omega)).trans (hS0.2.1 x h1 h2), hS0.2.2⟩
  obtain ⟨t2, a1, b1⟩ := kk TF.heap locs hHn hSn TF rfl (stand_widen X1 (by omega) (by omega))
  refine ⟨t2, step t2 ?_, b1⟩
  have e9 : ({ F0 m pc ls (.int k :: .int n :: rest) with pc := (F0 m pc ls (.int k :: .int n :: rest)).pc + 4, stack := .ref T.heap.size :: rest } : JFrame) = F0 m (pc + 4) ls (va_rf (some h.2.1) :: rest) := by rw [hT, z1]; rfl
  rw [e9]
  exact a1
end CROWS7

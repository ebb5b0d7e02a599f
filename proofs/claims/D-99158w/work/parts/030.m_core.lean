/-! THE TWIN's WORLD: one object at b, its arrays at b + 1 + rank. A state of it: int fields, long fields, int and char arrays, long arrays, all by the field's number. -/
set_option maxRecDepth 100000
abbrev MS : Type := (Nat → Int32) × (Nat → Int64) × (Nat → Nat → Int32) × (Nat → Nat → Int64)
def sI (σ : MS) (k : Nat) (v : Int32) : MS := (upd σ.1 k v, σ.2)
def sL (σ : MS) (k : Nat) (v : Int64) : MS := (σ.1, vp_updL σ.2.1 k v, σ.2.2)
def sA (σ : MS) (k i : Nat) (v : Int32) : MS := (σ.1, σ.2.1, va_up σ.2.2.1 k (upd (σ.2.2.1 k) i v), σ.2.2.2)
def sB (σ : MS) (k i : Nat) (v : Int64) : MS := (σ.1, σ.2.1, σ.2.2.1, va_up σ.2.2.2 k (vp_updL (σ.2.2.2 k) i v))
def mTyL : List Nat := [2, 0, 0, 0, 0, 0, 0, 0, 0, 2, 4, 4, 4, 4, 4, 4, 4, 4, 4, 4, 4, 4, 4, 4, 4, 4, 4, 4, 4, 4, 4, 4, 4, 4, 4, 4, 4, 4, 4, 0, 2, 3, 2, 2, 2, 2, 0, 2, 2, 2, 2, 0, 0, 0, 2, 2, 0, 0, 0, 0, 0, 2, 3, 2, 3, 0, 2, 2, 0, 0, 1, 4, 4, 4, 4, 4, 4, 4, 4, 4, 4, 4, 4, 4, 4, 4, 4, 4, 4, 4, 4, 2, 0, 2, 0, 0, 0, 3, 0, 1, 0, 2, 0]
def mLenL : List Nat := [1600, 0, 0, 0, 0, 0, 0, 0, 0, 6, 4, 4, 5, 2, 6, 2, 2, 5, 5, 6, 5, 3, 7, 5, 6, 7, 4, 5, 6, 4, 5, 5, 6, 2, 3, 3, 3, 3, 3, 0, 6, 48, 16, 96, 20, 60, 0, 8, 6, 6, 3200, 0, 0, 0, 257, 96, 0, 0, 0, 0, 0, 5, 5, 5, 160, 0, 48, 5140, 0, 0, 0, 5, 4, 5, 5, 4, 5, 3, 3, 2, 3, 3, 3, 4, 5, 6, 5, 4, 5, 6, 5, 1700, 0, 1700, 0, 0, 0, 1700, 0, 0, 0, 139, 0]
def mRkL : List Nat := [0, 0, 0, 0, 0, 0, 0, 0, 0, 1, 2, 3, 4, 5, 6, 7, 8, 9, 10, 11, 12, 13, 14, 15, 16, 17, 18, 19, 20, 21, 22, 23, 24, 25, 26, 27, 28, 29, 30, 0, 31, 32, 33, 34, 35, 36, 0, 37, 38, 39, 40, 0, 0, 0, 41, 42, 0, 0, 0, 0, 0, 43, 44, 45, 46, 0, 47, 48, 0, 0, 0, 49, 50, 51, 52, 53, 54, 55, 56, 57, 58, 59, 60, 61, 62, 63, 64, 65, 66, 67, 68, 69, 0, 70, 0, 0, 0, 71, 0, 0, 0, 72, 0]
def mNA : Nat := 73
def mTy (k : Nat) : Nat := mTyL.getD k 9
def mLen (k : Nat) : Nat := mLenL.getD k 0
def mRk (k : Nat) : Nat := mRkL.getD k 0
def ma (b k : Nat) : Nat := b + 1 + mRk k
theorem mTy_lt {k : Nat} (h : mTy k < 9) : k < 103 := by
  rcases Nat.lt_or_ge k 103 with q | q
  · exact q
  · have : mTy k = 9 := by
      unfold mTy
      rw [List.getD_eq_getElem?_getD, List.getElem?_eq_none (by rw [show mTyL.length = 103 from rfl]; exact q)]
      rfl
    omega
theorem mRk_inj : ∀ k, k < 103 → ∀ j, j < 103 → 2 ≤ mTy k → 2 ≤ mTy j → mRk k = mRk j → k = j := by decide +kernel
theorem mRk_lt : ∀ k, k < 103 → mRk k < mNA := by decide +kernel
theorem mOwn : ∀ k, k < 103 → (TX6 k).1 = RX6 := by decide +kernel
/-- what is known of the tables: the class, its slots, int[], long[], char[] -/
abbrev mG : Type := ClassId × (Nat → Nat) × ClassId × ClassId × ClassId
def mK (G : mG) (U : State) : Prop := u_Kn U RX6 TX6 103 G.1 G.2.1 ∧ ArrOfT U G.2.2.1 .int ∧ ArrOfT U G.2.2.2.1 .long ∧ ArrOfT U G.2.2.2.2 .char
theorem mK.moved {G : mG} {u U : State} (hvm : u.vm.Alike U.vm) (h : mK G u) : mK G U := ⟨u_Kn_moved hvm h.1, arrOfT_moved hvm h.2.1, arrOfT_moved hvm h.2.2.1, arrOfT_moved hvm h.2.2.2⟩
def mV (b : Nat) (σ : MS) (k : Nat) : Value := match mTy k with
  | 0 => .int (σ.1 k)
  | 1 => .long (σ.2.1 k)
  | _ => .ref (ma b k)
def mC (G : mG) (σ : MS) (k : Nat) : Cell := match mTy k with
  | 2 => arrV G.2.2.1 (mLen k) (fun j => .int (σ.2.2.1 k j))
  | 3 => arrV G.2.2.2.1 (mLen k) (fun j => .long (σ.2.2.2 k j))
  | _ => arrV G.2.2.2.2 (mLen k) (fun j => .int (σ.2.2.1 k j))
def MW (G : mG) (b : Nat) (σ : MS) (H : Heap) : Prop := t_OB b G.1 103 G.2.1 H (mV b σ) ∧ ∀ k, k < 103 → 2 ≤ mTy k → H[ma b k]? = some (mC G σ k)
/-- the twin's own cells -/
def mB (b : Nat) : Nat → Prop := fun q => b ≤ q ∧ q < b + 1 + mNA
theorem mB_b (b : Nat) : mB b b := ⟨Nat.le_refl b, by omega⟩
theorem mB_a (b : Nat) {k : Nat} (h : k < 103) : mB b (ma b k) := ⟨by unfold ma; omega, by have := mRk_lt k h; unfold ma; omega⟩
theorem ma_ne (b k : Nat) : ma b k ≠ b := by unfold ma; omega
theorem ma_inj {b j k : Nat} (h : ma b j = ma b k) : mRk j = mRk k := by unfold ma at h; omega
theorem mC_i {G : mG} {σ : MS} {k : Nat} (h : mTy k = 2) : mC G σ k = arrV G.2.2.1 (mLen k) (fun j => .int (σ.2.2.1 k j)) := by simp only [mC, h]
theorem mC_l {G : mG} {σ : MS} {k : Nat} (h : mTy k = 3) : mC G σ k = arrV G.2.2.2.1 (mLen k) (fun j => .long (σ.2.2.2 k j)) := by simp only [mC, h]
theorem mC_c {G : mG} {σ : MS} {k : Nat} (h : mTy k = 4) : mC G σ k = arrV G.2.2.2.2 (mLen k) (fun j => .int (σ.2.2.1 k j)) := by simp only [mC, h]
-- the operations
def aI (σ : MS) (k : Nat) (i : Int32) : Option Int32 := if i < 0 ∨ mLen k ≤ i.toNatClampNeg then none else some (σ.2.2.1 k i.toNatClampNeg)
def aL (σ : MS) (k : Nat) (i : Int32) : Option Int64 := if i < 0 ∨ mLen k ≤ i.toNatClampNeg then none else some (σ.2.2.2 k i.toNatClampNeg)
def aC (σ : MS) (k : Nat) (i : Int32) : Option Int32 := if mTy k ≠ 4 ∨ i < 0 ∨ mLen k ≤ i.toNatClampNeg then none else some (σ.2.2.1 k i.toNatClampNeg)
def aX (σ : MS) (k : Nat) (i : Int32) : Option Int32 := if mTy k ≠ 2 ∨ i < 0 ∨ mLen k ≤ i.toNatClampNeg then none else some (σ.2.2.1 k i.toNatClampNeg)
def aN (k : Nat) : Option Int32 := if 2 ≤ mTy k ∧ mTy k < 9 then some (nI (mLen k)) else none
def tI (σ : MS) (k : Nat) (i : Int32) (v : Int32) : Option MS := if i < 0 ∨ mLen k ≤ i.toNatClampNeg then none else some (sA σ k i.toNatClampNeg v)
def tL (σ : MS) (k : Nat) (i : Int32) (v : Int64) : Option MS := if i < 0 ∨ mLen k ≤ i.toNatClampNeg then none else some (sB σ k i.toNatClampNeg v)
/-- a number that must not be nought -/
def nz (x : Int32) : Option Int32 := if x = 0 then none else some x
def nzl (x : Int64) : Option Int64 := if x = 0 then none else some x
/-- a truth -/
def zr (x : Int32) : Option Int32 := if x = 0 ∨ x = 1 then some x else none
theorem ob {α β : Type} {o : Option α} {f : α → Option β} {r : β} (h : o.bind f = some r) : ∃ v, o = some v ∧ f v = some r := Option.bind_eq_some_iff.mp h
theorem it {α : Type} {c : Prop} [Decidable c] {a b r : α} (hc : c) (h : (if c then a else b) = r) : a = r := by rw [if_pos hc] at h; exact h
theorem ie {α : Type} {c : Prop} [Decidable c] {a b r : α} (hc : ¬ c) (h : (if c then a else b) = r) : b = r := by rw [if_neg hc] at h; exact h
theorem nz_e {x y : Int32} (h : nz x = some y) : ¬ x = 0 ∧ y = x := by
  unfold nz at h
  split at h
  · cases h
  · cases h; exact ⟨by assumption, rfl⟩
theorem nzl_e {x y : Int64} (h : nzl x = some y) : ¬ x = 0 ∧ y = x := by
  unfold nzl at h
  split at h
  · cases h
  · cases h; exact ⟨by assumption, rfl⟩
theorem zr_e {x y : Int32} (h : zr x = some y) : narrow .boolean (.int x) = .int x ∧ fits .boolean (.int x) = true ∧ y = x := by
  unfold zr at h
  split at h
  · rename_i q
    cases h
    rcases q with q | q <;> subst q <;> exact ⟨rfl, rfl, rfl⟩
  · cases h
section MCORE
variable {p : Program} {l : Launch} {e : Env} {R : Room} {s : State} {m : MethodId} {args : Array Value} {below : List Frame} {meth : Method} {c : Code} {H H0 : Heap} {locs : List Loc} {cells slots : Nat} {Q : State → Prop} {cc : ByteArray} {nL pc : Nat} {ls : Array Slot} {rest : List Value} {G : mG} {b : Nat} {σ : MS}
theorem m_get (S : CallFix p m c cc nL s args lw_all RX6) (hK : mK G s) (hM : MW G b σ H) (k : Nat) (hk : k < 103) {index : Nat} (hlink : Cond.fieldLink RX6 index RX6 (TX6 k).2.1 (TX6 k).2.2.1 ∈ lw_all) {v : Value} (hv : mV b σ k = v) (hdg : decode cc pc = .ok (.getfield index, 3))
    (kk : W p l e R s m args below meth c H locs cells slots Q (F0 m (pc + 3) ls (v :: rest))) : W p l e R s m args below meth c H locs cells slots Q (F0 m pc ls (.ref b :: rest)) := by
  obtain ⟨hx, hb, hml, hown, hts⟩ := S
  obtain ⟨⟨cell, q1, q2, q3, q4⟩, -⟩ := hM
  obtain ⟨⟨hS, hfc, kC, hkC, hkind⟩, -⟩ := hK
  obtain ⟨cf, kf, fi, f, hi, hsl⟩ := hS k hk
  refine W.getf hx hb hown (hts _ hlink) (by rw [← mOwn k hk]; exact hi) (u_facts hfc hkC (u_lays hts in_X6 hk) hi).1 q1 (by rw [q3]; exact fun h => by cases h) (v := v) ?_ rfl rfl hdg kk
  rw [hsl, q4 k hk, hv]
theorem m_apart {Ts : List Cond} (hts : ∀ w ∈ Ts, w.before args s = true) (hin : ∀ w ∈ u_ws RX6 TX6 103, w ∈ Ts) (hK : mK G s) : ∀ x y, x < 103 → y < 103 → x ≠ y → G.2.1 x ≠ G.2.1 y :=
  va_apart (own := RX6) (D := (fun _ => G.1, fun _ => G.2.1)) (cl := [(RX6, TX6, 103)]) (tys := []) (ci := 0) hts hin tyX6 tyX6_ok nmX6 ⟨fun c q h => by
    cases c with
    | zero => cases h; exact hK.1
    | succ n => simp at h, fun k q h => by simp at h⟩ rfl
theorem m_put (S : CallFix p m c cc nL s args lw_all RX6) (hK : mK G s) (hM : MW G b σ H) (hS0 : va_S (mB b) H0 H locs) (k : Nat) (hk : k < 103) {index : Nat} (hlink : Cond.fieldLink RX6 index RX6 (TX6 k).2.1 (TX6 k).2.2.1 ∈ lw_all) (hfin : (TX6 k).2.2.2 = false) {ty : FieldType} {v : Value} (hd : parseFieldDescriptor (TX6 k).2.2.1 = some ty) (hn : narrow ty v = v) (hfit : fits ty v = true) {σ' : MS} (hσ : ∀ j, j < 103 → updV (mV b σ) k v j = mV b σ' j) (hσa : ∀ j, mC G σ j = mC G σ' j) (hdg : decode cc pc = .ok (.putfield index, 3))
    (kk : ∀ (H1 : Heap) (locs1 : List Loc), MW G b σ' H1 → va_S (mB b) H0 H1 locs1 → W p l e R s m args below meth c H1 locs1 cells slots Q (F0 m (pc + 3) ls rest)) : W p l e R s m args below meth c H locs cells slots Q (F0 m pc ls (v :: .ref b :: rest)) := by
  have hap := m_apart S.2.2.2.2 in_X6 hK
  obtain ⟨hx, hb, hml, hown, hts⟩ := S
  obtain ⟨⟨cell, q1, q2, q3, q4⟩, hA⟩ := hM
  obtain ⟨⟨hS, hfc, kC, hkC, hkind⟩, -⟩ := hK
  obtain ⟨cf, kf, fi, f, hi, hsl⟩ := hS k hk
  have hlay := hts _ (in_X6 _ (u_in_lay hk))
  unfold u_lay at hlay
  rw [if_neg (by rw [hfin]; decide)] at hlay
  have hst := (u_facts hfc hkC (u_lays hts in_X6 hk) hi).1
  have h6 := u_store hfc hkC hkind hlay hi hd hn hfit
  refine W.putK hx hb (f := f) ⟨hown, hts _ hlink, ⟨_, _, _, by rw [← mOwn k hk]; exact hi⟩, hst⟩ (by rw [q2]; exact h6) q1 q3 (by rw [hsl]; exact k2_hasslot (q4 k hk)) rfl rfl hdg fun H' e1 e2 e3 => ?_
  rw [hsl] at e1 ⊢
  refine kk H' _ ⟨t_OB.to (V := updV (mV b σ) k v) ⟨_, e1, q2, q3, t_set q4 hap hk v⟩ hσ, fun j hj hj2 => ?_⟩ (hS0.put e2 e3 (mB_b b))
  rw [e3 _ (ma_ne b j), hA j hj hj2, hσa j]
theorem m_putI (S : CallFix p m c cc nL s args lw_all RX6) (hK : mK G s) (hM : MW G b σ H) (hS0 : va_S (mB b) H0 H locs) (k : Nat) (hk : k < 103) (ht : mTy k = 0) {index : Nat} (hlink : Cond.fieldLink RX6 index RX6 (TX6 k).2.1 (TX6 k).2.2.1 ∈ lw_all) (hfin : (TX6 k).2.2.2 = false) {ty : FieldType} {v : Int32} (hd : parseFieldDescriptor (TX6 k).2.2.1 = some ty) (hn : narrow ty (.int v) = .int v) (hfit : fits ty (.int v) = true) (hdg : decode cc pc = .ok (.putfield index, 3))
    (kk : ∀ (H1 : Heap) (locs1 : List Loc), MW G b (sI σ k v) H1 → va_S (mB b) H0 H1 locs1 → W p l e R s m args below meth c H1 locs1 cells slots Q (F0 m (pc + 3) ls rest)) : W p l e R s m args below meth c H locs cells slots Q (F0 m pc ls (.int v :: .ref b :: rest)) := by
  refine m_put S hK hM hS0 k hk hlink hfin hd hn hfit (σ' := sI σ k v) (fun j hj => ?_) (fun j => rfl) hdg kk
  by_cases hjk : j = k
  · subst hjk
    simp [updV, mV, ht, sI, upd]
  · simp [updV, mV, sI, upd, hjk]
theorem m_putL (S : CallFix p m c cc nL s args lw_all RX6) (hK : mK G s) (hM : MW G b σ H) (hS0 : va_S (mB b) H0 H locs) (k : Nat) (hk : k < 103) (ht : mTy k = 1) {index : Nat} (hlink : Cond.fieldLink RX6 index RX6 (TX6 k).2.1 (TX6 k).2.2.1 ∈ lw_all) (hfin : (TX6 k).2.2.2 = false) {v : Int64} (hd : parseFieldDescriptor (TX6 k).2.2.1 = some .long) (hdg : decode cc pc = .ok (.putfield index, 3))
    (kk : ∀ (H1 : Heap) (locs1 : List Loc), MW G b (sL σ k v) H1 → va_S (mB b) H0 H1 locs1 → W p l e R s m args below meth c H1 locs1 cells slots Q (F0 m (pc + 3) ls rest)) : W p l e R s m args below meth c H locs cells slots Q (F0 m pc ls (.long v :: .ref b :: rest)) := by
  refine m_put S hK hM hS0 k hk hlink hfin hd rfl rfl (σ' := sL σ k v) (fun j hj => ?_) (fun j => rfl) hdg kk
  by_cases hjk : j = k
  · subst hjk
    simp [updV, mV, ht, sL, vp_updL]
  · simp [updV, mV, sL, vp_updL, hjk]
theorem m_iald (S : CallFix p m c cc nL s args lw_all RX6) (hK : mK G s) (hM : MW G b σ H) (k : Nat) (ht : mTy k = 2) {i v : Int32} (h : aI σ k i = some v) (hdg : decode cc pc = .ok (.iaload, 1))
    (kk : W p l e R s m args below meth c H locs cells slots Q (F0 m (pc + 1) ls (.int v :: rest))) : W p l e R s m args below meth c H locs cells slots Q (F0 m pc ls (.int i :: .ref (ma b k) :: rest)) := by
  have hk := mTy_lt (k := k) (by omega)
  have hc := hM.2 k hk (by omega)
  rw [mC_i ht] at hc
  unfold aI at h
  split at h
  · cases h
  · rename_i hin
    cases h
    have hlt : i.toNatClampNeg < mLen k := Nat.not_le.mp fun q => hin (Or.inr q)
    exact W.iald (v := .int (σ.2.2.1 k i.toNatClampNeg)) S.1 S.2.1 hc (hK.2.1 _ _) (fun q => by cases q) (by rw [arrV_size]; exact hin) (by rw [arrV_read _ _ hlt]) rfl rfl hdg kk
theorem m_xald (S : CallFix p m c cc nL s args lw_all RX6) (hK : mK G s) (hM : MW G b σ H) (k : Nat) {i v : Int32} (h : aX σ k i = some v) (hdg : decode cc pc = .ok (.iaload, 1))
    (kk : W p l e R s m args below meth c H locs cells slots Q (F0 m (pc + 1) ls (.int v :: rest))) : W p l e R s m args below meth c H locs cells slots Q (F0 m pc ls (.int i :: .ref (ma b k) :: rest)) := by
  unfold aX at h
  split at h
  · cases h
  · rename_i hin
    have h2 : mTy k = 2 := Decidable.not_not.mp fun q => hin (Or.inl q)
    refine m_iald S hK hM k h2 (v := v) ?_ hdg kk
    unfold aI
    rw [if_neg (fun q => hin (Or.inr q))]
    exact h
theorem m_lald (S : CallFix p m c cc nL s args lw_all RX6) (hK : mK G s) (hM : MW G b σ H) (k : Nat) (ht : mTy k = 3) {i : Int32} {v : Int64} (h : aL σ k i = some v) (hdg : decode cc pc = .ok (.laload, 1))
    (kk : W p l e R s m args below meth c H locs cells slots Q (F0 m (pc + 1) ls (.long v :: rest))) : W p l e R s m args below meth c H locs cells slots Q (F0 m pc ls (.int i :: .ref (ma b k) :: rest)) := by
  have hk := mTy_lt (k := k) (by omega)
  have hc := hM.2 k hk (by omega)
  rw [mC_l ht] at hc
  unfold aL at h
  split at h
  · cases h
  · rename_i hin
    cases h
    have hlt : i.toNatClampNeg < mLen k := Nat.not_le.mp fun q => hin (Or.inr q)
    exact W.lald (v := .long (σ.2.2.2 k i.toNatClampNeg)) S.1 S.2.1 hc (hK.2.2.1 _ _) (fun q => by cases q) (by rw [arrV_size]; exact hin) (by rw [arrV_read _ _ hlt]) rfl rfl hdg kk
theorem m_cald (S : CallFix p m c cc nL s args lw_all RX6) (hK : mK G s) (hM : MW G b σ H) (k : Nat) {i v : Int32} (h : aC σ k i = some v) (hdg : decode cc pc = .ok (.caload, 1))
    (kk : W p l e R s m args below meth c H locs cells slots Q (F0 m (pc + 1) ls (.int v :: rest))) : W p l e R s m args below meth c H locs cells slots Q (F0 m pc ls (.int i :: .ref (ma b k) :: rest)) := by
  unfold aC at h
  split at h
  · cases h
  · rename_i hin
    cases h
    have ht : mTy k = 4 := Decidable.not_not.mp fun q => hin (Or.inl q)
    have hin2 : ¬ (i < 0 ∨ mLen k ≤ i.toNatClampNeg) := fun q => hin (Or.inr q)
    have hk := mTy_lt (k := k) (by omega)
    have hc := hM.2 k hk (by omega)
    rw [mC_c ht] at hc
    have hlt : i.toNatClampNeg < mLen k := Nat.not_le.mp fun q => hin2 (Or.inr q)
    exact W.cald (v := .int (σ.2.2.1 k i.toNatClampNeg)) S.1 S.2.1 hc (hK.2.2.2 _ _) (fun q => by cases q) (by rw [arrV_size]; exact hin2) (by rw [arrV_read _ _ hlt]) rfl rfl hdg kk
theorem m_alen (S : CallFix p m c cc nL s args lw_all RX6) (hK : mK G s) (hM : MW G b σ H) (k : Nat) {v : Int32} (h : aN k = some v) (hdg : decode cc pc = .ok (.arraylength, 1))
    (kk : W p l e R s m args below meth c H locs cells slots Q (F0 m (pc + 1) ls (.int v :: rest))) : W p l e R s m args below meth c H locs cells slots Q (F0 m pc ls (.ref (ma b k) :: rest)) := by
  unfold aN at h
  split at h
  · rename_i q
    cases h
    have hk := mTy_lt (k := k) (by omega)
    have hc := hM.2 k hk (by omega)
    have hs : (mC G σ k).slots.size.toInt32 = nI (mLen k) := by
      unfold mC
      split <;> rw [arrV_size] <;> rfl
    by_cases h2 : mTy k = 2
    · exact W.alen (ty := .int) S.1 S.2.1 hc (by rw [mC_i h2]; exact hK.2.1 _ _) hs rfl rfl hdg kk
    · by_cases h3 : mTy k = 3
      · exact W.alen (ty := .long) S.1 S.2.1 hc (by rw [mC_l h3]; exact hK.2.2.1 _ _) hs rfl rfl hdg kk
      · refine W.alen (ty := .char) S.1 S.2.1 hc ?_ hs rfl rfl hdg kk
        have : mC G σ k = arrV G.2.2.2.2 (mLen k) (fun j => .int (σ.2.2.1 k j)) := by
          unfold mC
          split
          · exact absurd (by assumption) h2
          · exact absurd (by assumption) h3
          · rfl
        rw [this]
        exact hK.2.2.2 _ _
  · cases h
theorem m_iast (S : CallFix p m c cc nL s args lw_all RX6) (hK : mK G s) (hM : MW G b σ H) (hS0 : va_S (mB b) H0 H locs) (k : Nat) (ht : mTy k = 2) {i v : Int32} {σ' : MS} (h : tI σ k i v = some σ') (hdg : decode cc pc = .ok (.iastore, 1))
    (kk : ∀ (H1 : Heap) (locs1 : List Loc), MW G b σ' H1 → va_S (mB b) H0 H1 locs1 → W p l e R s m args below meth c H1 locs1 cells slots Q (F0 m (pc + 1) ls rest)) : W p l e R s m args below meth c H locs cells slots Q (F0 m pc ls (.int v :: .int i :: .ref (ma b k) :: rest)) := by
  have hk := mTy_lt (k := k) (by omega)
  have hc := hM.2 k hk (by omega)
  rw [mC_i ht] at hc
  unfold tI at h
  split at h
  · cases h
  · rename_i hin
    cases h
    refine W.iast S.1 S.2.1 hc (hK.2.1 _ _) (fun q => by cases q) (by rw [arrV_size]; exact hin) rfl rfl hdg fun H1 e z oq => ?_
    refine kk H1 _ ⟨hM.1.kept (oq b (ma_ne b k).symm), fun j hj hj2 => ?_⟩ (hS0.put z oq (mB_a b hk))
    by_cases hjk : j = k
    · subst hjk
      rw [e, arrV_store, mC_i ht]
      congr 2
      funext q
      by_cases hq : q = i.toNatClampNeg
      · subst hq
        simp [updV, upd, sA, va_up]
      · simp [updV, upd, sA, va_up, hq]
    · rw [oq _ (fun q => hjk (mRk_inj j hj k hk hj2 (by omega) (ma_inj q))), hM.2 j hj hj2]
      unfold mC
      simp [sA, va_up, hjk]
theorem m_last (S : CallFix p m c cc nL s args lw_all RX6) (hK : mK G s) (hM : MW G b σ H) (hS0 : va_S (mB b) H0 H locs) (k : Nat) (ht : mTy k = 3) {i : Int32} {v : Int64} {σ' : MS} (h : tL σ k i v = some σ') (hdg : decode cc pc = .ok (.lastore, 1))
    (kk : ∀ (H1 : Heap) (locs1 : List Loc), MW G b σ' H1 → va_S (mB b) H0 H1 locs1 → W p l e R s m args below meth c H1 locs1 cells slots Q (F0 m (pc + 1) ls rest)) : W p l e R s m args below meth c H locs cells slots Q (F0 m pc ls (.long v :: .int i :: .ref (ma b k) :: rest)) := by
  have hk := mTy_lt (k := k) (by omega)
  have hc := hM.2 k hk (by omega)
  rw [mC_l ht] at hc
  unfold tL at h
  split at h
  · cases h
  · rename_i hin
    cases h
    refine W.last S.1 S.2.1 hc (hK.2.2.1 _ _) (fun q => by cases q) (by rw [arrV_size]; exact hin) rfl rfl hdg fun H1 e z oq => ?_
    refine kk H1 _ ⟨hM.1.kept (oq b (ma_ne b k).symm), fun j hj hj2 => ?_⟩ (hS0.put z oq (mB_a b hk))
    by_cases hjk : j = k
    · subst hjk
      rw [e, arrV_store, mC_l ht]
      congr 2
      funext q
      by_cases hq : q = i.toNatClampNeg
      · subst hq
        simp [updV, vp_updL, sB, va_up]
      · simp [updV, vp_updL, sB, va_up, hq]
    · rw [oq _ (fun q => hjk (mRk_inj j hj k hk hj2 (by omega) (ma_inj q))), hM.2 j hj hj2]
      unfold mC
      simp [sB, va_up, hjk]
-- contracts
def mP (G : mG) (b : Nat) (σ : MS) (av : List Value) : Array Value → State → Prop := va_Pc av (fun U => MW G b σ U.heap ∧ mK G U)
def mQi (G : mG) (b : Nat) (x : MS × Int32) : Array Value → State → Outcome → State → Prop := va_Qi (fun r (_ : Unit) => r = x.2) (fun _ t => MW G b x.1 t.heap) (mB b)
def mQl (G : mG) (b : Nat) (x : MS × Int64) : Array Value → State → Outcome → State → Prop := va_Ql (fun r (_ : Unit) => r = x.2) (fun _ t => MW G b x.1 t.heap) (mB b)
def mQv (G : mG) (b : Nat) (x : MS) : Array Value → State → Outcome → State → Prop := va_Qv (fun (_ : Unit) => True) (fun _ t => MW G b x t.heap) (mB b)
theorem m_pre (hK : mK G s) (hM : MW G b σ H) {av : List Value} : PreS s H (mP G b σ av) av :=
  ⟨fun a U g mk q => ⟨q.1, q.2.1, mK.moved (u := U) (U := U.calling g mk a) (Vm.Alike.refl U.vm) q.2.2⟩, fun U hU hW => ⟨rfl, by rw [hU]; exact hM, mK.moved hW.alike hK⟩⟩
theorem m_preV (hK : mK G s) (hM : MW G b σ H) {As : List Value} : PreV s H RX6 b (mP G b σ (.ref b :: As)) As := by
  obtain ⟨cell, q1, q2, q3, -⟩ := hM.1
  exact ⟨(m_pre hK hM).1, ⟨cell, q1, by rw [q3]; rfl, by rw [q2]; exact hK.1.2.1⟩, (m_pre hK hM).2⟩
variable {y : MethodName} {bytes : ByteArray} {maxL n index : Nat} {rm : Room} {ret : Option FieldType} {As : List Value} {st : List Value} {ws : List Cond}
theorem m_cVi {x : MS × Int32} (S : CallFix p m c cc nL s args lw_all RX6) (hK : mK G s) (hM : MW G b σ H) (hS : va_S (mB b) H0 H locs) (hMet : Met l y ws rm (mP G b σ (.ref b :: As)) (mQi G b x) 0 0 (mB b)) (cw : CallW R s args RX6 RX6 index y bytes maxL ret ws rm 0 0 n) (hf : cells ≤ R.cells ∧ slots ≤ R.slots) (hn : As.length = n) (hsize : ls.size = nL) (hst : st = As.reverse ++ .ref b :: rest) (hr : (rest.map fun v => v.category).sum ≤ 8) (hdg : decode cc pc = .ok (.invokevirtual index, 3))
    (kk : ∀ (H1 : Heap) (locs1 : List Loc), MW G b x.1 H1 → va_S (mB b) H0 H1 locs1 → W p l e R s m args below meth c H1 locs1 cells slots Q (F0 m (pc + 3) ls (.int x.2 :: rest))) : W p l e R s m args below meth c H locs cells slots Q (F0 m pc ls st) := by
  refine va_calli (va_runV (As := As) (rest := rest) S hMet cw (m_preV hK hM) rfl hn hsize hst (lv_room hr) hdg hf) hS (fun q _ h => h) (fun q h => h) (fun r u t H1 locs1 ht hvm hp hB hz hk hS1 => ?_)
  subst hp; subst ht
  exact kk _ _ hB hS1
theorem m_cVl {x : MS × Int64} (S : CallFix p m c cc nL s args lw_all RX6) (hK : mK G s) (hM : MW G b σ H) (hS : va_S (mB b) H0 H locs) (hMet : Met l y ws rm (mP G b σ (.ref b :: As)) (mQl G b x) 0 0 (mB b)) (cw : CallW R s args RX6 RX6 index y bytes maxL ret ws rm 0 0 n) (hf : cells ≤ R.cells ∧ slots ≤ R.slots) (hn : As.length = n) (hsize : ls.size = nL) (hst : st = As.reverse ++ .ref b :: rest) (hr : (rest.map fun v => v.category).sum ≤ 8) (hdg : decode cc pc = .ok (.invokevirtual index, 3))
    (kk : ∀ (H1 : Heap) (locs1 : List Loc), MW G b x.1 H1 → va_S (mB b) H0 H1 locs1 → W p l e R s m args below meth c H1 locs1 cells slots Q (F0 m (pc + 3) ls (.long x.2 :: rest))) : W p l e R s m args below meth c H locs cells slots Q (F0 m pc ls st) := by
  refine va_calll (va_runV (As := As) (rest := rest) S hMet cw (m_preV hK hM) rfl hn hsize hst (lv_room hr) hdg hf) hS (fun q _ h => h) (fun q h => h) (fun r u t H1 locs1 ht hvm hp hB hz hk hS1 => ?_)
  subst hp; subst ht
  exact kk _ _ hB hS1
theorem m_cVv {x : MS} (S : CallFix p m c cc nL s args lw_all RX6) (hK : mK G s) (hM : MW G b σ H) (hS : va_S (mB b) H0 H locs) (hMet : Met l y ws rm (mP G b σ (.ref b :: As)) (mQv G b x) 0 0 (mB b)) (cw : CallW R s args RX6 RX6 index y bytes maxL ret ws rm 0 0 n) (hf : cells ≤ R.cells ∧ slots ≤ R.slots) (hn : As.length = n) (hsize : ls.size = nL) (hst : st = As.reverse ++ .ref b :: rest) (hr : (rest.map fun v => v.category).sum ≤ 8) (hdg : decode cc pc = .ok (.invokevirtual index, 3))
    (kk : ∀ (H1 : Heap) (locs1 : List Loc), MW G b x H1 → va_S (mB b) H0 H1 locs1 → W p l e R s m args below meth c H1 locs1 cells slots Q (F0 m (pc + 3) ls rest)) : W p l e R s m args below meth c H locs cells slots Q (F0 m pc ls st) := by
  refine va_callv (va_runV (As := As) (rest := rest) S hMet cw (m_preV hK hM) rfl hn hsize hst (lv_room hr) hdg hf) hS (fun q _ h => h) (fun q h => h) (fun u t H1 locs1 ht hvm hp hB hz hk hS1 => ?_)
  subst ht
  exact kk _ _ hB hS1
theorem m_cSi {x : MS × Int32} (S : CallFix p m c cc nL s args lw_all RX6) (hK : mK G s) (hM : MW G b σ H) (hS : va_S (mB b) H0 H locs) (hMet : Met l y ws rm (mP G b σ As) (mQi G b x) 0 0 (mB b)) (cw : CallB R s args RX6 index y bytes maxL ret ws rm 0 0 n ∧ (Cond.static y).before args s = true) (hf : cells ≤ R.cells ∧ slots ≤ R.slots) (hn : As.length = n) (hsize : ls.size = nL) (hst : st = As.reverse ++ rest) (hr : (rest.map fun v => v.category).sum ≤ 8) (hdg : decode cc pc = .ok (.invokestatic index, 3))
    (kk : ∀ (H1 : Heap) (locs1 : List Loc), MW G b x.1 H1 → va_S (mB b) H0 H1 locs1 → W p l e R s m args below meth c H1 locs1 cells slots Q (F0 m (pc + 3) ls (.int x.2 :: rest))) : W p l e R s m args below meth c H locs cells slots Q (F0 m pc ls st) := by
  refine va_calli (va_runS (As := As) (rest := rest) S hMet cw (m_pre hK hM) rfl hn hsize hst (lv_room hr) hdg hf) hS (fun q _ h => h) (fun q h => h) (fun r u t H1 locs1 ht hvm hp hB hz hk hS1 => ?_)
  subst hp; subst ht
  exact kk _ _ hB hS1
theorem m_cSl {x : MS × Int64} (S : CallFix p m c cc nL s args lw_all RX6) (hK : mK G s) (hM : MW G b σ H) (hS : va_S (mB b) H0 H locs) (hMet : Met l y ws rm (mP G b σ As) (mQl G b x) 0 0 (mB b)) (cw : CallB R s args RX6 index y bytes maxL ret ws rm 0 0 n ∧ (Cond.static y).before args s = true) (hf : cells ≤ R.cells ∧ slots ≤ R.slots) (hn : As.length = n) (hsize : ls.size = nL) (hst : st = As.reverse ++ rest) (hr : (rest.map fun v => v.category).sum ≤ 8) (hdg : decode cc pc = .ok (.invokestatic index, 3))
    (kk : ∀ (H1 : Heap) (locs1 : List Loc), MW G b x.1 H1 → va_S (mB b) H0 H1 locs1 → W p l e R s m args below meth c H1 locs1 cells slots Q (F0 m (pc + 3) ls (.long x.2 :: rest))) : W p l e R s m args below meth c H locs cells slots Q (F0 m pc ls st) := by
  refine va_calll (va_runS (As := As) (rest := rest) S hMet cw (m_pre hK hM) rfl hn hsize hst (lv_room hr) hdg hf) hS (fun q _ h => h) (fun q h => h) (fun r u t H1 locs1 ht hvm hp hB hz hk hS1 => ?_)
  subst hp; subst ht
  exact kk _ _ hB hS1
-- ends
variable {x0 : State}
theorem m_iret {x : MS × Int32} {v : Int32} {ty : FieldType} (S : CallFix p m c cc nL s args lw_all RX6) (hr : meth.sig.returnType = some ty) (hlk : meth.locks = false) (hn : narrow ty (.int v) = .int v) (hM : MW G b σ H) (hS : va_S (mB b) s.heap H locs) (h : some (σ, v) = some x) (hdg : decode cc pc = .ok (.ireturn, 1)) : W p l e R s m args below meth c H locs 0 0 (MQ below (mQi G b x) args s 0 0 (mB b)) (F0 m pc ls [.int v]) := by
  cases h
  exact W.zret S.1 S.2.1 hr hn (fun t ht hW => ⟨⟨v, (), rfl, rfl, (show MW G b σ t.heap by rw [ht]; exact hM)⟩, hS.F ht⟩) hS.2.2 hdg
theorem m_lret {x : MS × Int64} {v : Int64} (S : CallFix p m c cc nL s args lw_all RX6) (hr : meth.sig.returnType = some .long) (hlk : meth.locks = false) (hM : MW G b σ H) (hS : va_S (mB b) s.heap H locs) (h : some (σ, v) = some x) (hdg : decode cc pc = .ok (.lreturn, 1)) : W p l e R s m args below meth c H locs 0 0 (MQ below (mQl G b x) args s 0 0 (mB b)) (F0 m pc ls [.long v]) := by
  cases h
  exact W.lret S.1 S.2.1 hr (fun t ht hW => ⟨⟨v, (), rfl, rfl, (show MW G b σ t.heap by rw [ht]; exact hM)⟩, hS.F ht⟩) hS.2.2 hdg
theorem m_vret {x : MS} (S : CallFix p m c cc nL s args lw_all RX6) (hr : meth.sig.returnType = none) (hlk : meth.locks = false) (hM : MW G b σ H) (hS : va_S (mB b) s.heap H locs) (h : some σ = some x) (hdg : decode cc pc = .ok (.return_, 1)) : W p l e R s m args below meth c H locs 0 0 (MQ below (mQv G b x) args s 0 0 (mB b)) (F0 m pc ls []) := by
  cases h
  exact W.vret S.1 S.2.1 hr (fun t ht hW => ⟨⟨(), rfl, trivial, (show MW G b σ t.heap by rw [ht]; exact hM)⟩, hS.F ht⟩) hS.2.2 hdg
/-- the long compare and its branch -/
theorem m_lcmp (S : CallFix p m c cc nL s args lw_all RX6) {x y : Int64} (hdg : decode cc pc = .ok (.lcmp, 1)) (k : W p l e R s m args below meth c H locs cells slots Q (F0 m (pc + 1) ls (.int (lg_cmp x y) :: rest))) : W p l e R s m args below meth c H locs cells slots Q (F0 m pc ls (.long y :: .long x :: rest)) := W.lcmp S.1 S.2.1 hdg k
end MCORE
/-- the entry: locals out of the arguments -/
theorem m_entry {cc : ByteArray} {y : MethodName} {nL : Nat} {ret : Option FieldType} {rm : Room} {l : Launch} {G : mG} {b : Nat} {σ : MS} {av : List Value} {Qc : Array Value → State → Outcome → State → Prop} (hy : plainName y.cls = true) (hcls : y.cls = RX6) (hlen : (lg_sl av).length ≤ nL)
    (body : ∀ (p : Program) (e : Env) (s : State) (m : MethodId) (below : List Frame) (meth : Method) (c : Code), CallFix p m c cc nL s av.toArray lw_all RX6 → meth.sig.returnType = ret → meth.locks = false → mK G s → MW G b σ s.heap → va_S (mB b) s.heap s.heap [] → ∀ ls, lv_has ls nL (lv_args 0 av) → W p l e rm s m av.toArray below meth c s.heap [] 0 0 (MQ below Qc av.toArray s 0 0 (mB b)) (F0 m 0 ls [])) :
    Met l y (ws_ y cc nL ret) rm (mP G b σ av) Qc 0 0 (mB b) := by
  refine Met.ofW (cc := cc) (maxL := nL) (ret := ret) hy rfl ?_
  intro p e s m args below meth c s₁ B hml hv
  obtain ⟨rfl, hM, hK⟩ := hv
  have hts := atoms_spec (ws := ws_ y cc nL ret) B.pre
  have hts : ∀ w ∈ lw_all, w.before _ s = true := fun w h => hts w (List.mem_cons_of_mem _ h)
  have hown : s.vm.findClass RX6 = some m.cls := by rw [← hcls]; exact findClass_of_methodNamed B.named
  have hl := lv_entry av (n := nL) hlen
  rw [lg_entry_eq]
  exact body p e s m below meth c ⟨B.exec, B.bytes, hml, hown, hts⟩ B.returns B.notSynchronized hK hM va_S.rf _ hl

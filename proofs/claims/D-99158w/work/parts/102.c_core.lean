/-! rows over the component's world -/
set_option maxRecDepth 100000
section CROWS
variable {p : Program} {l : Launch} {e : Env} {R : Room} {s : State} {m : MethodId} {args : Array Value} {below : List Frame} {meth : Method} {c : Code} {H H0 : Heap} {locs : List Loc} {cells slots : Nat} {Q : State → Prop} {cc : ByteArray} {nL pc : Nat} {ls : Array Slot} {rest : List Value} {A : Nat → Prop} {D : va_G} {ac : Nat → ClassId} {K : KE} {h : HS} {own ref C : String} {T : u_T} {N ci index k : Nat} {r : Option Nat}
theorem oV_e {fs : List Value} (hv : oV K h r ci = some fs) : ∃ a, r = some a ∧ rd K h a = some (.inr (ci, fs)) := by
  unfold oV at hv
  split at hv
  · cases hv
  · rename_i a
    split at hv
    · rename_i o ho
      split at hv
      · rename_i hc
        cases hv
        exact ⟨a, rfl, by rw [ho, ← hc]⟩
      · cases hv
    · cases hv
theorem c_get (S : CallFix p m c cc nL s args lw_all own) (hG : GK A D ac K s) (hH : HR A D ac K h H) (hc : CL[ci]? = some (C, T, N)) (hin : ∀ w ∈ u_ws C T N, w ∈ lw_all) (hk : k < N) (hlink : Cond.fieldLink own index ref (T k).2.1 (T k).2.2.1 ∈ lw_all) (hsame : ∀ x, s.fieldFound? (T k).1 (T k).2.1 (T k).2.2.1 = some x → s.fieldFound? ref (T k).2.1 (T k).2.2.1 = some x) {fs : List Value} {v : Value} (ho : oV K h r ci = some fs) (hv : vp_V fs k = v) (hdg : decode cc pc = .ok (.getfield index, 3))
    (kk : W p l e R s m args below meth c H locs cells slots Q (F0 m (pc + 3) ls (v :: rest))) : W p l e R s m args below meth c H locs cells slots Q (F0 m pc ls (va_rf r :: rest)) := by
  obtain ⟨a, rfl, hr⟩ := oV_e ho
  obtain ⟨r', h1, cell, q1, q2, q3, q4⟩ := hH.cell hr
  have hr' : r' = (C, T, N) := Option.some.inj (h1.symm.trans hc)
  subst hr'
  obtain ⟨hS, hfc, kC, hkC, hkind⟩ := hG.1.1 ci _ hc
  obtain ⟨cf, kf, fi, f, hi, hsl⟩ := hS k hk
  refine W.getf S.1 S.2.1 S.2.2.2.1 (S.2.2.2.2 _ hlink) (hsame _ hi) (u_facts hfc hkC (u_lays S.2.2.2.2 hin hk) hi).1 q1 (by rw [q3]; exact fun h => by cases h) (v := v) ?_ rfl rfl hdg kk
  rw [hsl, q4 k hk, hv]
theorem c_getN {host : String} (S : CallFix p m c cc nL s args lw_all own) (hG : GK A D ac K s) (hH : HR A D ac K h H) (hc : CL[ci]? = some (C, T, N)) (hin : ∀ w ∈ u_ws C T N, w ∈ lw_all) (hk : k < N) (hlink : Cond.fieldLinkNest own index ref (T k).2.1 (T k).2.2.1 host ∈ lw_tbl) (hsame : ∀ x, s.fieldFound? (T k).1 (T k).2.1 (T k).2.2.1 = some x → s.fieldFound? ref (T k).2.1 (T k).2.2.1 = some x) {fs : List Value} {v : Value} (ho : oV K h r ci = some fs) (hv : vp_V fs k = v) (hdg : decode cc pc = .ok (.getfield index, 3))
    (kk : W p l e R s m args below meth c H locs cells slots Q (F0 m (pc + 3) ls (v :: rest))) : W p l e R s m args below meth c H locs cells slots Q (F0 m pc ls (va_rf r :: rest)) := by
  obtain ⟨a, rfl, hr⟩ := oV_e ho
  obtain ⟨r', h1, cell, q1, q2, q3, q4⟩ := hH.cell hr
  have hr' : r' = (C, T, N) := Option.some.inj (h1.symm.trans hc)
  subst hr'
  obtain ⟨hS, hfc, kC, hkC, hkind⟩ := hG.1.1 ci _ hc
  obtain ⟨cf, kf, fi, f, hi, hsl⟩ := hS k hk
  refine va_Wgetf S.1 S.2.1 S.2.2.2.1 (va_Nw.use rfl (hG.2.1.1 _ _ _ _ _ _ hlink)) (hsame _ hi) (u_facts hfc hkC (u_lays S.2.2.2.2 hin hk) hi).1 q1 (by rw [q3]; exact fun h => by cases h) (v := v) ?_ rfl rfl hdg kk
  rw [hsl, q4 k hk, hv]
theorem gI_e {v : Int32} (hv : gI K h r ci k = some v) : ∃ fs, oV K h r ci = some fs ∧ vp_V fs k = .int v := by
  obtain ⟨fs, h1, h2⟩ := ob hv
  refine ⟨fs, h1, ?_⟩
  unfold toI at h2
  split at h2
  · cases h2; assumption
  · cases h2
theorem gL_e {v : Int64} (hv : gL K h r ci k = some v) : ∃ fs, oV K h r ci = some fs ∧ vp_V fs k = .long v := by
  obtain ⟨fs, h1, h2⟩ := ob hv
  refine ⟨fs, h1, ?_⟩
  unfold toL at h2
  split at h2
  · cases h2; assumption
  · cases h2
theorem gR_e {v : Option Nat} (hv : gR K h r ci k = some v) : ∃ fs, oV K h r ci = some fs ∧ vp_V fs k = va_rf v := by
  obtain ⟨fs, h1, h2⟩ := ob hv
  refine ⟨fs, h1, ?_⟩
  unfold toR at h2
  split at h2
  · cases h2; assumption
  · cases h2; assumption
  · cases h2
/-- behind a write at a -/
theorem HR.put {H1 : Heap} {a : Nat} {e0 e1 : HE} (hH : HR A D ac K h H) (ha : h.1 a = some e0) (hn : va_at D CL (a, toE ac e1) H1) (z : H1.size = H.size) (oq : ∀ q : Nat, q ≠ a → H1[q]? = H[q]?) (hs : hsum H1 = hsum H) : HR A D ac K (va_up h.1 a (some e1), h.2) H1 := by
  refine ⟨fun q e he => ?_, fun q e he => ?_, hH.2.2.1, z.trans hH.2.2.2.1, hs.trans hH.2.2.2.2.1, hH.2.2.2.2.2⟩
  · simp only [va_up] at he
    split at he
    · rename_i hq
      subst hq
      cases he
      exact ⟨(hH.1 _ _ ha).1, hn⟩
    · rename_i hq
      exact ⟨(hH.1 q e he).1, (hH.1 q e he).2.kept (oq q hq)⟩
  · have hq : q ≠ a := fun z => (hH.2.1 q e he).1 (z ▸ (hH.1 _ _ ha).1)
    exact ⟨(hH.2.1 q e he).1, (hH.2.1 q e he).2.kept (oq q hq)⟩
theorem pV_e {v : Value} {h' : HS} (hp : pV h r ci k v = some h') : ∃ (a : Nat) (fs : List Value), r = some a ∧ h.1 a = some (.inr (ci, fs)) ∧ k < fs.length ∧ h' = (va_up h.1 a (some (.inr (ci, fs.set k v))), h.2) := by
  unfold pV at hp
  split at hp
  · cases hp
  · rename_i a
    split at hp
    · rename_i o ho
      split at hp
      · rename_i hc
        cases hp
        exact ⟨a, o.2, rfl, by rw [ho, ← hc.1], hc.2, rfl⟩
      · cases hp
    · cases hp
theorem c_put (S : CallFix p m c cc nL s args lw_all own) (hG : GK A D ac K s) (hH : HR A D ac K h H) (hS0 : va_S A H0 H locs) (hc : CL[ci]? = some (C, T, N)) (hin : ∀ w ∈ u_ws C T N, w ∈ lw_all) (ty0 : Nat → FieldType) (hty : ∀ k, k < N → parseFieldDescriptor (T k).2.2.1 = some (ty0 k)) (hnm : ∀ a, a < N → ∀ b, b < N → a ≠ b → (T a).2.1 ≠ (T b).2.1) (hk : k < N) (hlink : Cond.fieldLink own index ref (T k).2.1 (T k).2.2.1 ∈ lw_all) (hsame : ∀ x, s.fieldFound? (T k).1 (T k).2.1 (T k).2.2.1 = some x → s.fieldFound? ref (T k).2.1 (T k).2.2.1 = some x) (hfin : (T k).2.2.2 = false) {ty : FieldType} {v : Value} (hd : parseFieldDescriptor (T k).2.2.1 = some ty) (hn : narrow ty v = v) (hfit : fits ty v = true) {h' : HS} (hp : pV h r ci k v = some h') (hdg : decode cc pc = .ok (.putfield index, 3))
    (kk : ∀ (H1 : Heap) (locs1 : List Loc), HR A D ac K h' H1 → va_S A H0 H1 locs1 → W p l e R s m args below meth c H1 locs1 cells slots Q (F0 m (pc + 3) ls rest)) : W p l e R s m args below meth c H locs cells slots Q (F0 m pc ls (v :: va_rf r :: rest)) := by
  obtain ⟨a, fs, rfl, hr, hl, rfl⟩ := pV_e hp
  have hap := va_apart (own := own) S.2.2.2.2 hin ty0 hty hnm hG.1 hc
  obtain ⟨r', h1, cell, q1, q2, q3, q4⟩ := (hH.1 _ _ hr).2
  have hr' : r' = (C, T, N) := Option.some.inj (h1.symm.trans hc)
  subst hr'
  obtain ⟨hS, hfc, kC, hkC, hkind⟩ := hG.1.1 ci _ hc
  obtain ⟨cf, kf, fi, f, hi, hsl⟩ := hS k hk
  have hlay := S.2.2.2.2 _ (hin _ (u_in_lay hk))
  unfold u_lay at hlay
  rw [if_neg (by rw [hfin]; decide)] at hlay
  have hst := (u_facts hfc hkC (u_lays S.2.2.2.2 hin hk) hi).1
  have h6 := u_store hfc hkC hkind hlay hi hd hn hfit
  refine W.putK S.1 S.2.1 (f := f) ⟨S.2.2.2.1, S.2.2.2.2 _ hlink, ⟨_, _, _, hsame _ hi⟩, hst⟩ (by rw [q2]; exact h6) q1 q3 (by rw [hsl]; exact k2_hasslot (q4 k hk)) rfl rfl hdg fun H' e1 e2 e3 => ?_
  have hsum1 := hsum_put q1 e1 e2 e3
  rw [hsl] at e1 ⊢
  exact kk H' _ (hH.put hr ⟨_, hc, t_OB.to (V := updV (vp_V fs) k v) ⟨_, e1, q2, q3, t_set q4 hap hk v⟩ (fun j _ => vp_updV_set hl v j)⟩ e2 e3 hsum1) (hS0.put e2 e3 (hH.1 _ _ hr).1)
theorem c_putN {host : String} (S : CallFix p m c cc nL s args lw_all own) (hG : GK A D ac K s) (hH : HR A D ac K h H) (hS0 : va_S A H0 H locs) (hc : CL[ci]? = some (C, T, N)) (hin : ∀ w ∈ u_ws C T N, w ∈ lw_all) (ty0 : Nat → FieldType) (hty : ∀ k, k < N → parseFieldDescriptor (T k).2.2.1 = some (ty0 k)) (hnm : ∀ a, a < N → ∀ b, b < N → a ≠ b → (T a).2.1 ≠ (T b).2.1) (hk : k < N) (hlink : Cond.fieldLinkNest own index ref (T k).2.1 (T k).2.2.1 host ∈ lw_tbl) (hsame : ∀ x, s.fieldFound? (T k).1 (T k).2.1 (T k).2.2.1 = some x → s.fieldFound? ref (T k).2.1 (T k).2.2.1 = some x) (hfin : (T k).2.2.2 = false) {ty : FieldType} {v : Value} (hd : parseFieldDescriptor (T k).2.2.1 = some ty) (hn : narrow ty v = v) (hfit : fits ty v = true) {h' : HS} (hp : pV h r ci k v = some h') (hdg : decode cc pc = .ok (.putfield index, 3))
    (kk : ∀ (H1 : Heap) (locs1 : List Loc), HR A D ac K h' H1 → va_S A H0 H1 locs1 → W p l e R s m args below meth c H1 locs1 cells slots Q (F0 m (pc + 3) ls rest)) : W p l e R s m args below meth c H locs cells slots Q (F0 m pc ls (v :: va_rf r :: rest)) := by
  obtain ⟨a, fs, rfl, hr, hl, rfl⟩ := pV_e hp
  have hap := va_apart (own := own) S.2.2.2.2 hin ty0 hty hnm hG.1 hc
  obtain ⟨r', h1, cell, q1, q2, q3, q4⟩ := (hH.1 _ _ hr).2
  have hr' : r' = (C, T, N) := Option.some.inj (h1.symm.trans hc)
  subst hr'
  obtain ⟨hS, hfc, kC, hkC, hkind⟩ := hG.1.1 ci _ hc
  obtain ⟨cf, kf, fi, f, hi, hsl⟩ := hS k hk
  have hlay := S.2.2.2.2 _ (hin _ (u_in_lay hk))
  unfold u_lay at hlay
  rw [if_neg (by rw [hfin]; decide)] at hlay
  have hst := (u_facts hfc hkC (u_lays S.2.2.2.2 hin hk) hi).1
  have h6 := u_store hfc hkC hkind hlay hi hd hn hfit
  refine va_WputK S.1 S.2.1 (f := f) S.2.2.2.1 (va_Nw.use rfl (hG.2.1.1 _ _ _ _ _ _ hlink)) (hsame _ hi) hst (by rw [q2]; exact h6) q1 q3 (by rw [hsl]; exact k2_hasslot (q4 k hk)) rfl rfl hdg fun H' e1 e2 e3 => ?_
  have hsum1 := hsum_put q1 e1 e2 e3
  rw [hsl] at e1 ⊢
  exact kk H' _ (hH.put hr ⟨_, hc, t_OB.to (V := updV (vp_V fs) k v) ⟨_, e1, q2, q3, t_set q4 hap hk v⟩ (fun j _ => vp_updV_set hl v j)⟩ e2 e3 hsum1) (hS0.put e2 e3 (hH.1 _ _ hr).1)
/-- a final field in its constructor -/
theorem c_putF (S : CallFix p m c cc nL s args lw_all own) (hG : GK A D ac K s) (hH : HR A D ac K h H) (hS0 : va_S A H0 H locs) (hc : CL[ci]? = some (C, T, N)) (hin : ∀ w ∈ u_ws C T N, w ∈ lw_all) (ty0 : Nat → FieldType) (hty : ∀ k, k < N → parseFieldDescriptor (T k).2.2.1 = some (ty0 k)) (hnm : ∀ a, a < N → ∀ b, b < N → a ≠ b → (T a).2.1 ≠ (T b).2.1) (hk : k < N) (hlink : Cond.fieldLink own index ref (T k).2.1 (T k).2.2.1 ∈ lw_all) (hsame : ∀ x, s.fieldFound? (T k).1 (T k).2.1 (T k).2.2.1 = some x → s.fieldFound? ref (T k).2.1 (T k).2.2.1 = some x) (hfin : (T k).2.2.2 = true) (hin2 : meth.name = "<init>") (hdecl : (T k).1 = own) {ty : FieldType} {v : Value} (hd : parseFieldDescriptor (T k).2.2.1 = some ty) (hn : narrow ty v = v) (hfit : fits ty v = true) {h' : HS} (hp : pV h r ci k v = some h') (hdg : decode cc pc = .ok (.putfield index, 3))
    (kk : ∀ (H1 : Heap) (locs1 : List Loc), HR A D ac K h' H1 → va_S A H0 H1 locs1 → W p l e R s m args below meth c H1 locs1 cells slots Q (F0 m (pc + 3) ls rest)) : W p l e R s m args below meth c H locs cells slots Q (F0 m pc ls (v :: va_rf r :: rest)) := by
  obtain ⟨a, fs, rfl, hr, hl, rfl⟩ := pV_e hp
  have hap := va_apart (own := own) S.2.2.2.2 hin ty0 hty hnm hG.1 hc
  obtain ⟨r', h1, cell, q1, q2, q3, q4⟩ := (hH.1 _ _ hr).2
  have hr' : r' = (C, T, N) := Option.some.inj (h1.symm.trans hc)
  subst hr'
  obtain ⟨hS, hfc, kC, hkC, hkind⟩ := hG.1.1 ci _ hc
  obtain ⟨cf, kf, fi, f, hi, hsl⟩ := hS k hk
  have hlay := S.2.2.2.2 _ (hin _ (u_in_lay hk))
  unfold u_lay at hlay
  rw [if_pos hfin] at hlay
  have hst := (u_facts hfc hkC (u_lays S.2.2.2.2 hin hk) hi).1
  have hcf : m.cls = cf := by
    obtain ⟨_, _, c', _, _, _, -, -, hf', -, -, -, hown2, -⟩ := Cond.laysFinal_spec hlay
    have e1 : c' = cf := by have := hi.symm.trans hf'; simp at this; exact this.1.symm
    rw [hdecl] at hown2
    rw [← e1]; exact Option.some.inj (S.2.2.2.1.symm.trans hown2)
  have h6 := u_fits hfc hkC hkind (Or.inr hlay) hi hd hn hfit
  refine W.putFinK S.1 S.2.1 S.2.2.2.1 (S.2.2.2.2 _ hlink) (hsame _ hi) hst hcf hin2 (by rw [q2]; exact h6) q1 q3 (by rw [hsl]; exact k2_hasslot (q4 k hk)) rfl rfl hdg fun H' e1 e2 e3 => ?_
  have hsum1 := hsum_put q1 e1 e2 e3
  rw [hsl] at e1 ⊢
  exact kk H' _ (hH.put hr ⟨_, hc, t_OB.to (V := updV (vp_V fs) k v) ⟨_, e1, q2, q3, t_set q4 hap hk v⟩ (fun j _ => vp_updV_set hl v j)⟩ e2 e3 hsum1) (hS0.put e2 e3 (hH.1 _ _ hr).1)
-- arrays
theorem arr_e {t : Nat} {q : vp_A} (hv : arr K h r t = some q) : ∃ a, r = some a ∧ rd K h a = some (.inl (t, q)) := by
  unfold arr at hv
  split at hv
  · cases hv
  · rename_i a
    split at hv
    · rename_i o ho
      split at hv
      · rename_i hc
        cases hv
        exact ⟨a, rfl, by rw [ho, ← hc]⟩
      · cases hv
    · cases hv
theorem inx_e {i : Int32} {n : Nat} (h : inx i n = true) : vp_in i n := by
  unfold inx at h
  unfold vp_in
  intro q
  rcases q with q | q <;> simp [q] at h
theorem cI_e {t : Nat} {i v : Int32} (hv : cI K h r t i = some v) : ∃ (a n : Nat) (f : Nat → Int32), r = some a ∧ rd K h a = some (.inl (t, n, .inl f)) ∧ vp_in i n ∧ v = f i.toNatClampNeg := by
  unfold cI at hv
  split at hv
  · rename_i n f hq
    split at hv
    · rename_i hi
      cases hv
      obtain ⟨a, e1, e2⟩ := arr_e hq
      exact ⟨a, n, f, e1, e2, inx_e hi, rfl⟩
    · cases hv
  · cases hv
theorem cL_e {t : Nat} {i : Int32} {v : Int64} (hv : cL K h r t i = some v) : ∃ (a n : Nat) (f : Nat → Int64), r = some a ∧ rd K h a = some (.inl (t, n, .inr (.inl f))) ∧ vp_in i n ∧ v = f i.toNatClampNeg := by
  unfold cL at hv
  split at hv
  · rename_i n f hq
    split at hv
    · rename_i hi
      cases hv
      obtain ⟨a, e1, e2⟩ := arr_e hq
      exact ⟨a, n, f, e1, e2, inx_e hi, rfl⟩
    · cases hv
  · cases hv
theorem cR_e {t : Nat} {i : Int32} {v : Option Nat} (hv : cR K h r t i = some v) : ∃ (a n : Nat) (f : Nat → Option Nat), r = some a ∧ rd K h a = some (.inl (t, n, .inr (.inr (.inr (.inr f))))) ∧ vp_in i n ∧ v = f i.toNatClampNeg := by
  unfold cR at hv
  split at hv
  · rename_i n f hq
    split at hv
    · rename_i hi
      cases hv
      obtain ⟨a, e1, e2⟩ := arr_e hq
      exact ⟨a, n, f, e1, e2, inx_e hi, rfl⟩
    · cases hv
  · cases hv
theorem c_iald (S : CallFix p m c cc nL s args lw_all own) (hG : GK A D ac K s) (hH : HR A D ac K h H) {i v : Int32} (hv : cI K h r 0 i = some v) (hdg : decode cc pc = .ok (.iaload, 1)) (kk : W p l e R s m args below meth c H locs cells slots Q (F0 m (pc + 1) ls (.int v :: rest))) : W p l e R s m args below meth c H locs cells slots Q (F0 m pc ls (.int i :: va_rf r :: rest)) := by
  obtain ⟨a, n, f, rfl, e2, hi, rfl⟩ := cI_e hv
  exact va_iald (ws := [(a, toE ac (.inl (0, n, .inl f)))]) S.1 S.2.1 hG.1 (fun k q hq => by cases k with | zero => cases hq; exact hH.cell e2 | succ k => simp at hq) 0 0 rfl rfl hi hdg kk
theorem c_cald (S : CallFix p m c cc nL s args lw_all own) (hG : GK A D ac K s) (hH : HR A D ac K h H) {i v : Int32} (hv : cI K h r 2 i = some v) (hdg : decode cc pc = .ok (.caload, 1)) (kk : W p l e R s m args below meth c H locs cells slots Q (F0 m (pc + 1) ls (.int v :: rest))) : W p l e R s m args below meth c H locs cells slots Q (F0 m pc ls (.int i :: va_rf r :: rest)) := by
  obtain ⟨a, n, f, rfl, e2, hi, rfl⟩ := cI_e hv
  exact va_cald (ws := [(a, toE ac (.inl (2, n, .inl f)))]) S.1 S.2.1 hG.1 (fun k q hq => by cases k with | zero => cases hq; exact hH.cell e2 | succ k => simp at hq) 0 2 rfl rfl hi hdg kk
theorem c_bald (S : CallFix p m c cc nL s args lw_all own) (hG : GK A D ac K s) (hH : HR A D ac K h H) {i v : Int32} (hv : cI K h r 3 i = some v) (hdg : decode cc pc = .ok (.baload, 1)) (kk : W p l e R s m args below meth c H locs cells slots Q (F0 m (pc + 1) ls (.int v :: rest))) : W p l e R s m args below meth c H locs cells slots Q (F0 m pc ls (.int i :: va_rf r :: rest)) := by
  obtain ⟨a, n, f, rfl, e2, hi, rfl⟩ := cI_e hv
  exact va_bald (ws := [(a, toE ac (.inl (3, n, .inl f)))]) S.1 S.2.1 hG.1 (fun k q hq => by cases k with | zero => cases hq; exact hH.cell e2 | succ k => simp at hq) 0 3 rfl rfl hi hdg kk
theorem c_zald (S : CallFix p m c cc nL s args lw_all own) (hG : GK A D ac K s) (hH : HR A D ac K h H) {i v : Int32} (hv : cI K h r 4 i = some v) (hdg : decode cc pc = .ok (.baload, 1)) (kk : W p l e R s m args below meth c H locs cells slots Q (F0 m (pc + 1) ls (.int v :: rest))) : W p l e R s m args below meth c H locs cells slots Q (F0 m pc ls (.int i :: va_rf r :: rest)) := by
  obtain ⟨a, n, f, rfl, e2, hi, rfl⟩ := cI_e hv
  exact va_zald (ws := [(a, toE ac (.inl (4, n, .inl f)))]) S.1 S.2.1 hG.1 (fun k q hq => by cases k with | zero => cases hq; exact hH.cell e2 | succ k => simp at hq) 0 4 rfl rfl hi hdg kk
theorem c_lald (S : CallFix p m c cc nL s args lw_all own) (hG : GK A D ac K s) (hH : HR A D ac K h H) {i : Int32} {v : Int64} (hv : cL K h r 1 i = some v) (hdg : decode cc pc = .ok (.laload, 1)) (kk : W p l e R s m args below meth c H locs cells slots Q (F0 m (pc + 1) ls (.long v :: rest))) : W p l e R s m args below meth c H locs cells slots Q (F0 m pc ls (.int i :: va_rf r :: rest)) := by
  obtain ⟨a, n, f, rfl, e2, hi, rfl⟩ := cL_e hv
  exact va_lald (ws := [(a, toE ac (.inl (1, n, .inr (.inl f))))]) S.1 S.2.1 hG.1 (fun k q hq => by cases k with | zero => cases hq; exact hH.cell e2 | succ k => simp at hq) 0 1 rfl rfl hi hdg kk
/-- a reference out of an array whose tag is t -/
theorem c_aald (S : CallFix p m c cc nL s args lw_all own) (hG : GK A D ac K s) (hH : HR A D ac K h H) (t : Nat) {ty : FieldType} (ht : (TY ac)[t]? = some (ac t, ty)) (hty : ty.isReference = true) {i : Int32} {v : Option Nat} (hv : cR K h r t i = some v) (hdg : decode cc pc = .ok (.aaload, 1)) (kk : W p l e R s m args below meth c H locs cells slots Q (F0 m (pc + 1) ls (va_rf v :: rest))) : W p l e R s m args below meth c H locs cells slots Q (F0 m pc ls (.int i :: va_rf r :: rest)) := by
  obtain ⟨a, n, f, rfl, e2, hi, rfl⟩ := cR_e hv
  have hlt : i.toNatClampNeg < n := Nat.not_le.mp fun q => hi (Or.inr q)
  have hc : H[a]? = some (arrV (ac t) n (fun j => va_rf (f j))) := hH.cell e2
  exact W.aald (v := va_rf (f i.toNatClampNeg)) (ty := ty) S.1 S.2.1 hc ((hG.1.2 t _ ht).1 n _) hty (fun q => by cases q) (by rw [arrV_size]; exact hi) (by rw [arrV_read _ _ hlt]) rfl rfl hdg kk
theorem c_alen (S : CallFix p m c cc nL s args lw_all own) (hG : GK A D ac K s) (hH : HR A D ac K h H) (t : Nat) {ty : FieldType} (ht : (TY ac)[t]? = some (ac t, ty)) {v : Int32} (hv : cN K h r t = some v) (hdg : decode cc pc = .ok (.arraylength, 1)) (kk : W p l e R s m args below meth c H locs cells slots Q (F0 m (pc + 1) ls (.int v :: rest))) : W p l e R s m args below meth c H locs cells slots Q (F0 m pc ls (va_rf r :: rest)) := by
  unfold cN at hv
  obtain ⟨q, hq, rfl⟩ := Option.map_eq_some_iff.mp hv
  obtain ⟨a, rfl, e2⟩ := arr_e hq
  have hc : H[a]? = some (vp_cell (ac t) q) := hH.cell e2
  have hs : (vp_cell (ac t) q).slots.size.toInt32 = nI q.1 := by
    unfold vp_cell
    split <;> rw [arrV_size] <;> rfl
  refine W.alen (ty := ty) S.1 S.2.1 hc ?_ hs rfl rfl hdg kk
  unfold vp_cell
  split <;> exact (hG.1.2 t _ ht).1 _ _
theorem wA_e {t : Nat} {g : Nat → (Nat → Int32) ⊕ (Nat → Int64) ⊕ (Nat → UInt32) ⊕ (Nat → UInt64) ⊕ (Nat → Option Nat) → Option ((Nat → Int32) ⊕ (Nat → Int64) ⊕ (Nat → UInt32) ⊕ (Nat → UInt64) ⊕ (Nat → Option Nat))} {h' : HS} (hp : wA h r t g = some h') : ∃ (a n : Nat) (x y : (Nat → Int32) ⊕ (Nat → Int64) ⊕ (Nat → UInt32) ⊕ (Nat → UInt64) ⊕ (Nat → Option Nat)), r = some a ∧ h.1 a = some (.inl (t, n, x)) ∧ g n x = some y ∧ h' = (va_up h.1 a (some (.inl (t, n, y))), h.2) := by
  unfold wA at hp
  split at hp
  · cases hp
  · rename_i a
    split at hp
    · rename_i o ho
      split at hp
      · rename_i hc
        split at hp
        · rename_i y hy
          cases hp
          exact ⟨a, o.2.1, o.2.2, y, rfl, by rw [ho, ← hc], hy, rfl⟩
        · cases hp
      · cases hp
    · cases hp
theorem sC_e {t : Nat} {i v : Int32} {h' : HS} (hp : sC h r t i v = some h') : ∃ (a n : Nat) (f : Nat → Int32), r = some a ∧ h.1 a = some (.inl (t, n, .inl f)) ∧ vp_in i n ∧ h' = (va_up h.1 a (some (.inl (t, n, .inl (upd f i.toNatClampNeg v)))), h.2) := by
  obtain ⟨a, n, x, y, e1, e2, e3, e4⟩ := wA_e hp
  split at e3
  · rename_i f
    split at e3
    · rename_i hi
      cases e3
      exact ⟨a, n, f, e1, e2, inx_e hi, e4⟩
    · cases e3
  · cases e3
theorem sCL_e {t : Nat} {i : Int32} {v : Int64} {h' : HS} (hp : sCL h r t i v = some h') : ∃ (a n : Nat) (f : Nat → Int64), r = some a ∧ h.1 a = some (.inl (t, n, .inr (.inl f))) ∧ vp_in i n ∧ h' = (va_up h.1 a (some (.inl (t, n, .inr (.inl (vp_updL f i.toNatClampNeg v))))), h.2) := by
  obtain ⟨a, n, x, y, e1, e2, e3, e4⟩ := wA_e hp
  split at e3
  · rename_i f
    split at e3
    · rename_i hi
      cases e3
      exact ⟨a, n, f, e1, e2, inx_e hi, e4⟩
    · cases e3
  · cases e3
theorem sCR_e {t : Nat} {i : Int32} {v : Option Nat} {h' : HS} (hp : sCR K h r t i v = some h') : okIn K h t v = true ∧ ∃ (a n : Nat) (f : Nat → Option Nat), r = some a ∧ h.1 a = some (.inl (t, n, .inr (.inr (.inr (.inr f))))) ∧ vp_in i n ∧ h' = (va_up h.1 a (some (.inl (t, n, .inr (.inr (.inr (.inr (va_up f i.toNatClampNeg v))))))), h.2) := by
  unfold sCR at hp
  split at hp
  · rename_i hok
    refine ⟨hok, ?_⟩
    obtain ⟨a, n, x, y, e1, e2, e3, e4⟩ := wA_e hp
    split at e3
    · rename_i f
      split at e3
      · rename_i hi
        cases e3
        exact ⟨a, n, f, e1, e2, inx_e hi, e4⟩
      · cases e3
    · cases e3
  · cases hp
theorem arrV_upd (cA : ClassId) (n k : Nat) (f : Nat → Int32) (x : Int32) : (arrV cA n (fun j => Value.int (f j))).setSlot k (.int x) = arrV cA n (fun j => .int (upd f k x j)) := by
  rw [arrV_store]
  congr 1
  funext q
  by_cases hq : q = k
  · subst hq; simp [updV, upd]
  · simp [updV, upd, hq]
theorem arrV_updL (cA : ClassId) (n k : Nat) (f : Nat → Int64) (x : Int64) : (arrV cA n (fun j => Value.long (f j))).setSlot k (.long x) = arrV cA n (fun j => .long (vp_updL f k x j)) := by
  rw [arrV_store]
  congr 1
  funext q
  by_cases hq : q = k
  · subst hq; simp [updV, vp_updL]
  · simp [updV, vp_updL, hq]
theorem arrV_updR (cA : ClassId) (n k : Nat) (f : Nat → Option Nat) (x : Option Nat) : (arrV cA n (fun j => va_rf (f j))).setSlot k (va_rf x) = arrV cA n (fun j => va_rf (va_up f k x j)) := by
  rw [arrV_store]
  congr 1
  funext q
  by_cases hq : q = k
  · subst hq; simp [updV, va_up]
  · simp [updV, va_up, hq]
theorem c_iast (S : CallFix p m c cc nL s args lw_all own) (hG : GK A D ac K s) (hH : HR A D ac K h H) (hS0 : va_S A H0 H locs) {i v : Int32} {h' : HS} (hp : sC h r 0 i v = some h') (hdg : decode cc pc = .ok (.iastore, 1))
    (kk : ∀ (H1 : Heap) (locs1 : List Loc), HR A D ac K h' H1 → va_S A H0 H1 locs1 → W p l e R s m args below meth c H1 locs1 cells slots Q (F0 m (pc + 1) ls rest)) : W p l e R s m args below meth c H locs cells slots Q (F0 m pc ls (.int v :: .int i :: va_rf r :: rest)) := by
  obtain ⟨a, n, f, rfl, hr, hi, rfl⟩ := sC_e hp
  have hc : H[a]? = some (arrV (ac 0) n (fun j => .int (f j))) := (hH.1 _ _ hr).2
  refine W.iast S.1 S.2.1 hc ((hG.1.2 0 _ rfl).1 _ _) (fun q => by cases q) (by rw [arrV_size]; exact hi) rfl rfl hdg fun H1 e z oq => ?_
  refine kk H1 _ (hH.put hr ?_ z oq (hsum_put hc e z oq)) (hS0.put z oq (hH.1 _ _ hr).1)
  rw [arrV_upd] at e
  exact e
theorem c_last (S : CallFix p m c cc nL s args lw_all own) (hG : GK A D ac K s) (hH : HR A D ac K h H) (hS0 : va_S A H0 H locs) {i : Int32} {v : Int64} {h' : HS} (hp : sCL h r 1 i v = some h') (hdg : decode cc pc = .ok (.lastore, 1))
    (kk : ∀ (H1 : Heap) (locs1 : List Loc), HR A D ac K h' H1 → va_S A H0 H1 locs1 → W p l e R s m args below meth c H1 locs1 cells slots Q (F0 m (pc + 1) ls rest)) : W p l e R s m args below meth c H locs cells slots Q (F0 m pc ls (.long v :: .int i :: va_rf r :: rest)) := by
  obtain ⟨a, n, f, rfl, hr, hi, rfl⟩ := sCL_e hp
  have hc : H[a]? = some (arrV (ac 1) n (fun j => .long (f j))) := (hH.1 _ _ hr).2
  refine W.last S.1 S.2.1 hc ((hG.1.2 1 _ rfl).1 _ _) (fun q => by cases q) (by rw [arrV_size]; exact hi) rfl rfl hdg fun H1 e z oq => ?_
  refine kk H1 _ (hH.put hr ?_ z oq (hsum_put hc e z oq)) (hS0.put z oq (hH.1 _ _ hr).1)
  rw [arrV_updL] at e
  exact e
end CROWS

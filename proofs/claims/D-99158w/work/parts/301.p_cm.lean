/-! PLAIN LAW: the component's fixed block as numbers. CM: ints, longs, references by offset and place; other cells; heap size, slots -/
set_option maxRecDepth 100000
abbrev CM : Type := (Nat → Nat → Int32) × (Nat → Nat → Int64) × (Nat → Nat → Option Nat) × (Nat → Option HE) × Nat × Nat
abbrev iA (t n : Nat) (f : Nat → Int32) : HE := .inl (t, n, .inl f)
abbrev lA (n : Nat) (f : Nat → Int64) : HE := .inl (1, n, .inr (.inl f))
abbrev rA (t n : Nat) (f : Nat → Option Nat) : HE := .inl (t, n, .inr (.inr (.inr (.inr f))))
def rowF (b n j : Nat) : Option Nat := if j < n then some (b + j) else none
def stB (a s t : Nat) (fi : Nat → Int32) (fl : Nat → Int64) (fr : Nat → Option Nat) : HE :=
  if t = 0 then .inr (5, [.int (fi 0), .int (fi 1), .int (fi 2), .ref (a + (s + 1)), .ref (a + (s + 8)), .ref (a + (s + 15)), .ref (a + (s + 16)), .ref (a + (s + 57)), .ref (a + (s + 58)), .int (fi 9), .ref a])
  else if t = 1 then rA 8 6 (rowF (a + (s + 2)) 6)
  else if t < 8 then iA 0 6 fi
  else if t = 8 then rA 8 6 (rowF (a + (s + 9)) 6)
  else if t < 15 then iA 0 8 fi
  else if t = 15 then iA 0 5 fi
  else if t = 16 then rA 8 40 fr
  else if t < 57 then iA 0 4 fi
  else if t = 57 then lA 5 fl
  else iA 0 5 fi
def bld (a o : Nat) (fi : Nat → Int32) (fl : Nat → Int64) (fr : Nat → Option Nat) : HE :=
  if o = 0 then .inr (0, [va_rf (fr 0), .ref (a + 8), .int (fi 2), .int (fi 3), .int (fi 4), .ref (a + 9), .ref (a + 11), .ref (a + 13), .ref (a + 15), .ref (a + 16), .ref (a + 75), .ref (a + 134), .ref (a + 167), .ref (a + 168), .ref (a + 169), .int (fi 15), .ref (a + 170), .int (fi 17), .long (fl 18), .int (fi 19), .ref (a + 1351), .int (fi 21)])
  else if o = 8 then iA 3 1600 fi
  else if o = 9 then .inr (2, [.ref (a + 10), .int (fi 1), .int (fi 2), .int (fi 3), .int (fi 4), .int (fi 5), va_rf (fr 6), .ref a])
  else if o = 10 then .inr (3, [.null, .null, .null, .null, .null, .int (fi 5), .int (fi 6), .int (fi 7)])
  else if o = 11 then .inr (4, [.ref (a + 12)])
  else if o = 12 then lA 8 fl
  else if o = 13 then .inr (4, [.ref (a + 14)])
  else if o = 14 then lA 8 fl
  else if o = 15 then iA 0 6 fi
  else if o < 75 then stB a 16 (o - 16) fi fl fr
  else if o < 134 then stB a 75 (o - 75) fi fl fr
  else if o = 134 then rA 9 32 (rowF (a + 135) 32)
  else if o < 167 then lA 5 fl
  else if o = 167 then iA 0 16 fi
  else if o = 168 then iA 0 16 fi
  else if o = 169 then iA 4 16 fi
  else if o = 170 then rA 7 20 fr
  else if o < 1351 then stB a (171 + 59 * ((o - 171) / 59)) ((o - 171) % 59) fi fl fr
  else iA 3 139 fi
/-- where the State number i lies: 0 now, 1 tried, from 2 on those that are kept -/
def sbo (i : Nat) : Nat := if i = 0 then 16 else if i = 1 then 75 else 171 + 59 * (i - 2)
def inB (a y : Nat) : Prop := a ≤ y ∧ y < a + 1352 ∧ (y = a ∨ a + 8 ≤ y)
theorem inB_dec (a y : Nat) : inB a y ∨ ¬ inB a y := Classical.em _
noncomputable def hp (a : Nat) (M : CM) : HS := (fun y => if a ≤ y ∧ y < a + 1352 ∧ (y = a ∨ a + 8 ≤ y) then some (bld a (y - a) (M.1 (y - a)) (M.2.1 (y - a)) (M.2.2.1 (y - a))) else M.2.2.2.1 y, M.2.2.2.2)
def mI (M : CM) (o k : Nat) (v : Int32) : CM := (va_up M.1 o (upd (M.1 o) k v), M.2)
def mL (M : CM) (o k : Nat) (v : Int64) : CM := (M.1, va_up M.2.1 o (vp_updL (M.2.1 o) k v), M.2.2)
def mR (M : CM) (o k : Nat) (v : Option Nat) : CM := (M.1, M.2.1, va_up M.2.2.1 o (va_up (M.2.2.1 o) k v), M.2.2.2)
def mD (M : CM) (y : Nat) (e : Option HE) : CM := (M.1, M.2.1, M.2.2.1, va_up M.2.2.2.1 y e, M.2.2.2.2)
def mA (M : CM) (e : HE) (n : Nat) : CM := (M.1, M.2.1, M.2.2.1, va_up M.2.2.2.1 M.2.2.2.2.1 (some e), M.2.2.2.2.1 + 1, M.2.2.2.2.2 + n)
section PCM
variable {K : KE} {a o o' i k k' j n t ci y w : Nat} {M : CM} {v : Int32}
theorem up_s {α : Type} (f : Nat → α) (a : Nat) (b : α) : va_up f a b a = b := by simp [va_up]
theorem up_n {α : Type} (f : Nat → α) {a x : Nat} (b : α) (hx : x ≠ a) : va_up f a b x = f x := by simp [va_up, hx]
-- numbers behind a write
theorem mI_1 : (mI M o k v).1 o' j = if o' = o ∧ j = k then v else M.1 o' j := by
  simp only [mI, va_up]
  by_cases e : o' = o
  · subst e; simp [upd]
  · simp [e]
theorem mI_s : (mI M o k v).1 o k = v := by rw [mI_1, if_pos ⟨rfl, rfl⟩]
theorem mI_n (h : o' ≠ o ∨ j ≠ k) : (mI M o k v).1 o' j = M.1 o' j := by rw [mI_1, if_neg (fun q => h.elim (fun z => z q.1) (fun z => z q.2))]
theorem mI_o (h : o' ≠ o) : (mI M o k v).1 o' = M.1 o' := by simp [mI, va_up, h]
theorem mI_2 : (mI M o k v).2 = M.2 := rfl
theorem mL_1 {v : Int64} : (mL M o k v).1 = M.1 := rfl
theorem mL_2 {v : Int64} : (mL M o k v).2.1 o' j = if o' = o ∧ j = k then v else M.2.1 o' j := by
  simp only [mL, va_up]
  by_cases e : o' = o
  · subst e; simp [vp_updL]
  · simp [e]
theorem mL_s {v : Int64} : (mL M o k v).2.1 o k = v := by rw [mL_2, if_pos ⟨rfl, rfl⟩]
theorem mL_n {v : Int64} (h : o' ≠ o ∨ j ≠ k) : (mL M o k v).2.1 o' j = M.2.1 o' j := by rw [mL_2, if_neg (fun q => h.elim (fun z => z q.1) (fun z => z q.2))]
theorem mL_o {v : Int64} (h : o' ≠ o) : (mL M o k v).2.1 o' = M.2.1 o' := by simp [mL, va_up, h]
theorem mL_3 {v : Int64} : (mL M o k v).2.2 = M.2.2 := rfl
theorem mR_1 {v : Option Nat} : (mR M o k v).1 = M.1 := rfl
theorem mR_2 {v : Option Nat} : (mR M o k v).2.1 = M.2.1 := rfl
theorem mR_3 {v : Option Nat} : (mR M o k v).2.2.1 o' j = if o' = o ∧ j = k then v else M.2.2.1 o' j := by
  simp only [mR, va_up]
  by_cases e : o' = o
  · subst e; simp [va_up]
  · simp [e]
theorem mR_o {v : Option Nat} (h : o' ≠ o) : (mR M o k v).2.2.1 o' = M.2.2.1 o' := by simp [mR, va_up, h]
theorem mR_4 {v : Option Nat} : (mR M o k v).2.2.2 = M.2.2.2 := rfl
-- the cells
theorem hp_at (h1 : o < 1352) (h2 : o = 0 ∨ 8 ≤ o) : (hp a M).1 (a + o) = some (bld a o (M.1 o) (M.2.1 o) (M.2.2.1 o)) := by
  have e : a + o - a = o := by omega
  simp only [hp, e]
  rw [if_pos (by omega)]
theorem hp_D (h : ¬ inB a y) : (hp a M).1 y = M.2.2.2.1 y := by
  exact if_neg h
theorem hp_2 : (hp a M).2 = M.2.2.2.2 := rfl
theorem hp_ext {g : Nat → Option HE} {M' : CM} (h1 : o < 1352) (h2 : o = 0 ∨ 8 ≤ o) {e : HE} (hg : g = va_up (hp a M).1 (a + o) (some e)) (he : e = bld a o (M'.1 o) (M'.2.1 o) (M'.2.2.1 o)) (q1 : ∀ o', o' ≠ o → M'.1 o' = M.1 o') (q2 : ∀ o', o' ≠ o → M'.2.1 o' = M.2.1 o') (q3 : ∀ o', o' ≠ o → M'.2.2.1 o' = M.2.2.1 o') (q4 : M'.2.2.2 = M.2.2.2) : (g, (hp a M).2) = hp a M' := by
  subst hg
  apply Prod.ext
  · funext y
    by_cases hy : y = a + o
    · subst hy
      show va_up (hp a M).1 (a + o) (some e) (a + o) = (hp a M').1 (a + o)
      rw [up_s, hp_at h1 h2, he]
    · show va_up (hp a M).1 (a + o) (some e) y = (hp a M').1 y
      rw [up_n _ _ hy]
      simp only [hp]
      split
      · rename_i z
        have : y - a ≠ o := by omega
        rw [q1 _ this, q2 _ this, q3 _ this]
      · rw [q4]
  · show M.2.2.2.2 = M'.2.2.2.2
    rw [q4]
theorem hp_I (h1 : o < 1352) (h2 : o = 0 ∨ 8 ≤ o) {e : HE} (he : e = bld a o (upd (M.1 o) k v) (M.2.1 o) (M.2.2.1 o)) : (va_up (hp a M).1 (a + o) (some e), (hp a M).2) = hp a (mI M o k v) :=
  hp_ext h1 h2 rfl (M' := mI M o k v) (by rw [he]; simp [mI, va_up]) (fun o' q => mI_o q) (fun o' q => rfl) (fun o' q => rfl) rfl
theorem hp_L {v : Int64} (h1 : o < 1352) (h2 : o = 0 ∨ 8 ≤ o) {e : HE} (he : e = bld a o (M.1 o) (vp_updL (M.2.1 o) k v) (M.2.2.1 o)) : (va_up (hp a M).1 (a + o) (some e), (hp a M).2) = hp a (mL M o k v) :=
  hp_ext h1 h2 rfl (M' := mL M o k v) (by rw [he]; simp [mL, va_up]) (fun o' q => rfl) (fun o' q => mL_o q) (fun o' q => rfl) rfl
theorem hp_R {v : Option Nat} (h1 : o < 1352) (h2 : o = 0 ∨ 8 ≤ o) {e : HE} (he : e = bld a o (M.1 o) (M.2.1 o) (va_up (M.2.2.1 o) k v)) : (va_up (hp a M).1 (a + o) (some e), (hp a M).2) = hp a (mR M o k v) :=
  hp_ext h1 h2 rfl (M' := mR M o k v) (by rw [he]; simp [mR, va_up]) (fun o' q => rfl) (fun o' q => rfl) (fun o' q => mR_o q) rfl
theorem hp_mD {e : Option HE} (h : ¬ inB a y) : (va_up (hp a M).1 y e, (hp a M).2) = hp a (mD M y e) := by
  apply Prod.ext
  · funext z
    by_cases hz : z = y
    · subst hz
      rw [hp_D h]
      simp only [mD, up_s]
    · show va_up (hp a M).1 y e z = (hp a (mD M y e)).1 z
      rw [up_n _ _ hz]
      simp only [hp, mD]
      split
      · rfl
      · rw [up_n _ _ hz]
  · rfl
-- shapes
def isI (a o t n : Nat) : Prop := o < 1352 ∧ (o = 0 ∨ 8 ≤ o) ∧ n < 2 ^ 31 ∧ ∀ fi fl fr, bld a o fi fl fr = iA t n fi
def isL (a o n : Nat) : Prop := o < 1352 ∧ (o = 0 ∨ 8 ≤ o) ∧ n < 2 ^ 31 ∧ ∀ fi fl fr, bld a o fi fl fr = lA n fl
def isR (a o t n : Nat) : Prop := o < 1352 ∧ (o = 0 ∨ 8 ≤ o) ∧ n < 2 ^ 31 ∧ ∀ fi fl fr, bld a o fi fl fr = rA t n fr
def isQ (a o t n : Nat) (f : Nat → Option Nat) : Prop := o < 1352 ∧ (o = 0 ∨ 8 ≤ o) ∧ n < 2 ^ 31 ∧ ∀ fi fl fr, bld a o fi fl fr = rA t n f
theorem rd_s {h : HS} {e : HE} (q : h.1 y = some e) : rd K h y = some e := by unfold rd; rw [q]
theorem z_cI (H : isI a o t n) (hk : k < n) : cI K (hp a M) (some (a + o)) t (nI k) = some (M.1 o k) := by
  obtain ⟨h1, h2, h3, h4⟩ := H
  have q := hp_at (a := a) (M := M) h1 h2
  rw [h4] at q
  simp only [cI, arr, rd_s q, if_true]
  rw [inx_k (by omega), decide_eq_true hk, nI_clamp (by omega)]
  rfl
theorem z_cL (H : isL a o n) (hk : k < n) : cL K (hp a M) (some (a + o)) 1 (nI k) = some (M.2.1 o k) := by
  obtain ⟨h1, h2, h3, h4⟩ := H
  have q := hp_at (a := a) (M := M) h1 h2
  rw [h4] at q
  simp only [cL, arr, rd_s q, if_true]
  rw [inx_k (by omega), decide_eq_true hk, nI_clamp (by omega)]
  rfl
theorem z_cR (H : isR a o t n) (hk : k < n) : cR K (hp a M) (some (a + o)) t (nI k) = some (M.2.2.1 o k) := by
  obtain ⟨h1, h2, h3, h4⟩ := H
  have q := hp_at (a := a) (M := M) h1 h2
  rw [h4] at q
  simp only [cR, arr, rd_s q, if_true]
  rw [inx_k (by omega), decide_eq_true hk, nI_clamp (by omega)]
  rfl
theorem z_cQ {f : Nat → Option Nat} (H : isQ a o t n f) (hk : k < n) : cR K (hp a M) (some (a + o)) t (nI k) = some (f k) := by
  obtain ⟨h1, h2, h3, h4⟩ := H
  have q := hp_at (a := a) (M := M) h1 h2
  rw [h4] at q
  simp only [cR, arr, rd_s q, if_true]
  rw [inx_k (by omega), decide_eq_true hk, nI_clamp (by omega)]
  rfl
theorem z_cN (H : isI a o t n) : cN K (hp a M) (some (a + o)) t = some (nI n) := by
  obtain ⟨h1, h2, h3, h4⟩ := H
  have q := hp_at (a := a) (M := M) h1 h2
  rw [h4] at q
  simp [cN, arr, rd_s q]
theorem z_sC (H : isI a o t n) (hk : k < n) : sC (hp a M) (some (a + o)) t (nI k) v = some (hp a (mI M o k v)) := by
  obtain ⟨h1, h2, h3, h4⟩ := H
  have q := hp_at (a := a) (M := M) h1 h2
  rw [h4] at q
  simp only [sC, wA, q, if_true]
  rw [inx_k (by omega), decide_eq_true hk, nI_clamp (by omega)]
  simp only [if_true]
  rw [hp_I h1 h2 (k := k) (v := v) (by rw [h4])]
theorem z_sCL {v : Int64} (H : isL a o n) (hk : k < n) : sCL (hp a M) (some (a + o)) 1 (nI k) v = some (hp a (mL M o k v)) := by
  obtain ⟨h1, h2, h3, h4⟩ := H
  have q := hp_at (a := a) (M := M) h1 h2
  rw [h4] at q
  simp only [sCL, wA, q, if_true]
  rw [inx_k (by omega), decide_eq_true hk, nI_clamp (by omega)]
  simp only [if_true]
  rw [hp_L h1 h2 (k := k) (v := v) (by rw [h4])]
theorem z_sCR {v : Option Nat} (H : isR a o t n) (hk : k < n) (hv : okIn K (hp a M) t v = true) : sCR K (hp a M) (some (a + o)) t (nI k) v = some (hp a (mR M o k v)) := by
  obtain ⟨h1, h2, h3, h4⟩ := H
  have q := hp_at (a := a) (M := M) h1 h2
  rw [h4] at q
  simp only [sCR, hv, wA, q, if_true]
  rw [inx_k (by omega), decide_eq_true hk, nI_clamp (by omega)]
  simp only [if_true]
  rw [hp_R h1 h2 (k := k) (v := v) (by rw [h4])]
-- objects of the block
theorem z_gI {x : Int32} {fs : List Value} (h1 : o < 1352) (h2 : o = 0 ∨ 8 ≤ o) (hb : bld a o (M.1 o) (M.2.1 o) (M.2.2.1 o) = .inr (ci, fs)) (hk : vp_V fs k = .int x) : gI K (hp a M) (some (a + o)) ci k = some x := by
  have q := hp_at (a := a) (M := M) h1 h2
  rw [hb] at q
  simp [gI, oV, rd_s q, hk, toI]
theorem z_gL {x : Int64} {fs : List Value} (h1 : o < 1352) (h2 : o = 0 ∨ 8 ≤ o) (hb : bld a o (M.1 o) (M.2.1 o) (M.2.2.1 o) = .inr (ci, fs)) (hk : vp_V fs k = .long x) : gL K (hp a M) (some (a + o)) ci k = some x := by
  have q := hp_at (a := a) (M := M) h1 h2
  rw [hb] at q
  simp [gL, oV, rd_s q, hk, toL]
theorem toR_rf (r : Option Nat) : toR (va_rf r) = some r := by cases r <;> rfl
theorem z_gR {x : Option Nat} {fs : List Value} (h1 : o < 1352) (h2 : o = 0 ∨ 8 ≤ o) (hb : bld a o (M.1 o) (M.2.1 o) (M.2.2.1 o) = .inr (ci, fs)) (hk : vp_V fs k = va_rf x) : gR K (hp a M) (some (a + o)) ci k = some x := by
  have q := hp_at (a := a) (M := M) h1 h2
  rw [hb] at q
  simp only [gR, oV, rd_s q, if_true, Option.bind_some, hk, toR_rf]
theorem z_rcv {fs : List Value} (h1 : o < 1352) (h2 : o = 0 ∨ 8 ≤ o) (hb : bld a o (M.1 o) (M.2.1 o) (M.2.2.1 o) = .inr (ci, fs)) : rcv K (hp a M) (some (a + o)) ci = some (a + o) := by
  have q := hp_at (a := a) (M := M) h1 h2
  rw [hb] at q
  simp [rcv, rd_s q]
theorem z_pI {fs : List Value} (h1 : o < 1352) (h2 : o = 0 ∨ 8 ≤ o) (hb : bld a o (M.1 o) (M.2.1 o) (M.2.2.1 o) = .inr (ci, fs)) (hk : k < fs.length) (hc : .inr (ci, fs.set k (.int v)) = bld a o (upd (M.1 o) k v) (M.2.1 o) (M.2.2.1 o)) : pV (hp a M) (some (a + o)) ci k (.int v) = some (hp a (mI M o k v)) := by
  have q := hp_at (a := a) (M := M) h1 h2
  rw [hb] at q
  simp only [pV, q, true_and, if_pos hk]
  rw [hp_I h1 h2 (k := k) (v := v) hc]
theorem z_pL {v : Int64} {fs : List Value} (h1 : o < 1352) (h2 : o = 0 ∨ 8 ≤ o) (hb : bld a o (M.1 o) (M.2.1 o) (M.2.2.1 o) = .inr (ci, fs)) (hk : k < fs.length) (hc : .inr (ci, fs.set k (.long v)) = bld a o (M.1 o) (vp_updL (M.2.1 o) k v) (M.2.2.1 o)) : pV (hp a M) (some (a + o)) ci k (.long v) = some (hp a (mL M o k v)) := by
  have q := hp_at (a := a) (M := M) h1 h2
  rw [hb] at q
  simp only [pV, q, true_and, if_pos hk]
  rw [hp_L h1 h2 (k := k) (v := v) hc]
theorem z_pR {v : Option Nat} {fs : List Value} (h1 : o < 1352) (h2 : o = 0 ∨ 8 ≤ o) (hb : bld a o (M.1 o) (M.2.1 o) (M.2.2.1 o) = .inr (ci, fs)) (hk : k < fs.length) (hc : .inr (ci, fs.set k (va_rf v)) = bld a o (M.1 o) (M.2.1 o) (va_up (M.2.2.1 o) k v)) : pV (hp a M) (some (a + o)) ci k (va_rf v) = some (hp a (mR M o k v)) := by
  have q := hp_at (a := a) (M := M) h1 h2
  rw [hb] at q
  simp only [pV, q, true_and, if_pos hk]
  rw [hp_R h1 h2 (k := k) (v := v) hc]
-- other cells
theorem d_rd {e : HE} (hy : ¬ inB a y) (q : M.2.2.2.1 y = some e) : rd K (hp a M) y = some e := rd_s (by rw [hp_D hy]; exact q)
theorem d_rk (hy : ¬ inB a y) (q : M.2.2.2.1 y = none) : rd K (hp a M) y = K.1 y := by unfold rd; rw [hp_D hy, q]
theorem d_gI {x : Int32} {fs : List Value} (hy : ¬ inB a y) (q : M.2.2.2.1 y = some (.inr (ci, fs))) (hk : vp_V fs k = .int x) : gI K (hp a M) (some y) ci k = some x := by
  simp [gI, oV, d_rd hy q, hk, toI]
theorem d_gL {x : Int64} {fs : List Value} (hy : ¬ inB a y) (q : M.2.2.2.1 y = some (.inr (ci, fs))) (hk : vp_V fs k = .long x) : gL K (hp a M) (some y) ci k = some x := by
  simp [gL, oV, d_rd hy q, hk, toL]
theorem d_gR {x : Option Nat} {fs : List Value} (hy : ¬ inB a y) (q : M.2.2.2.1 y = some (.inr (ci, fs))) (hk : vp_V fs k = va_rf x) : gR K (hp a M) (some y) ci k = some x := by
  simp only [gR, oV, d_rd hy q, if_true, Option.bind_some, hk, toR_rf]
theorem d_rcv {fs : List Value} (hy : ¬ inB a y) (q : M.2.2.2.1 y = some (.inr (ci, fs))) : rcv K (hp a M) (some y) ci = some y := by
  simp [rcv, d_rd hy q]
theorem d_cls {fs : List Value} (hy : ¬ inB a y) (q : M.2.2.2.1 y = some (.inr (ci, fs))) : clsOf K (hp a M) (some y) = some (y, ci) := by
  simp [clsOf, d_rd hy q]
theorem d_ckL {fs : List Value} {cis : List Nat} (hy : ¬ inB a y) (q : M.2.2.2.1 y = some (.inr (ci, fs))) (hc : ci ∈ cis) : ckL K (hp a M) (some y) cis = some () := by
  simp [ckL, d_rd hy q, hc]
theorem d_cI {f : Nat → Int32} (hy : ¬ inB a y) (q : M.2.2.2.1 y = some (iA t n f)) (hk : k < n) (hn : n < 2 ^ 31) : cI K (hp a M) (some y) t (nI k) = some (f k) := by
  simp only [cI, arr, d_rd hy q, if_true]
  rw [inx_k (by omega), decide_eq_true hk, nI_clamp (by omega)]
  rfl
theorem d_cR {f : Nat → Option Nat} (hy : ¬ inB a y) (q : M.2.2.2.1 y = some (rA t n f)) (hk : k < n) (hn : n < 2 ^ 31) : cR K (hp a M) (some y) t (nI k) = some (f k) := by
  simp only [cR, arr, d_rd hy q, if_true]
  rw [inx_k (by omega), decide_eq_true hk, nI_clamp (by omega)]
  rfl
theorem d_cN {f : Nat → Int32} (hy : ¬ inB a y) (q : M.2.2.2.1 y = some (iA t n f)) : cN K (hp a M) (some y) t = some (nI n) := by
  simp [cN, arr, d_rd hy q]
theorem d_cNr {f : Nat → Option Nat} (hy : ¬ inB a y) (q : M.2.2.2.1 y = some (rA t n f)) : cN K (hp a M) (some y) t = some (nI n) := by
  simp [cN, arr, d_rd hy q]
theorem d_sC {f : Nat → Int32} (hy : ¬ inB a y) (q : M.2.2.2.1 y = some (iA t n f)) (hk : k < n) (hn : n < 2 ^ 31) : sC (hp a M) (some y) t (nI k) v = some (hp a (mD M y (some (iA t n (upd f k v))))) := by
  have q2 := hp_D (M := M) hy
  rw [q] at q2
  simp only [sC, wA, q2, if_true]
  rw [inx_k (by omega), decide_eq_true hk, nI_clamp (by omega)]
  simp only [if_true]
  rw [hp_mD hy]
theorem d_sCR {f : Nat → Option Nat} {v : Option Nat} (hy : ¬ inB a y) (q : M.2.2.2.1 y = some (rA t n f)) (hk : k < n) (hn : n < 2 ^ 31) (hv : okIn K (hp a M) t v = true) : sCR K (hp a M) (some y) t (nI k) v = some (hp a (mD M y (some (rA t n (va_up f k v))))) := by
  have q2 := hp_D (M := M) hy
  rw [q] at q2
  simp only [sCR, hv, wA, q2, if_true]
  rw [inx_k (by omega), decide_eq_true hk, nI_clamp (by omega)]
  simp only [if_true]
  rw [hp_mD hy]
theorem d_pV {v : Value} {fs : List Value} (hy : ¬ inB a y) (q : M.2.2.2.1 y = some (.inr (ci, fs))) (hk : k < fs.length) : pV (hp a M) (some y) ci k v = some (hp a (mD M y (some (.inr (ci, fs.set k v))))) := by
  have q2 := hp_D (M := M) hy
  rw [q] at q2
  simp only [pV, q2, true_and, if_pos hk]
  rw [hp_mD hy]
theorem d_alc {e : HE} (hy : ¬ inB a M.2.2.2.2.1) (h1 : M.2.2.2.2.1 + 1 ≤ K.2.2.1) (h2 : M.2.2.2.2.2 + n ≤ K.2.2.2) : alc K (hp a M) e n = some (hp a (mA M e n)) := by
  unfold alc
  rw [if_pos ⟨h1, h2⟩]
  have := hp_mD (a := a) (M := M) (e := some e) hy
  have e1 : va_up (hp a M).1 M.2.2.2.2.1 (some e) = (hp a (mD M M.2.2.2.2.1 (some e))).1 := congrArg Prod.fst this
  show some (va_up (hp a M).1 M.2.2.2.2.1 (some e), M.2.2.2.2.1 + 1, M.2.2.2.2.2 + n) = _
  rw [e1]
  rfl
-- States
theorem sbo_c (i : Nat) : (i = 0 ∧ sbo i = 16) ∨ (i = 1 ∧ sbo i = 75) ∨ (2 ≤ i ∧ sbo i = 171 + 59 * (i - 2)) := by
  unfold sbo
  by_cases h0 : i = 0
  · exact Or.inl ⟨h0, if_pos h0⟩
  · by_cases h1 : i = 1
    · exact Or.inr (Or.inl ⟨h1, by rw [if_neg h0, if_pos h1]⟩)
    · exact Or.inr (Or.inr ⟨by omega, by rw [if_neg h0, if_neg h1]⟩)
theorem sbo_lt (hi : i < 22) : sbo i + 58 < 1352 ∧ 16 ≤ sbo i := by
  have := sbo_c i
  omega
theorem sbo_ne (hi : i < 22) (hj : j < 22) (h : i ≠ j) {t u : Nat} (ht : t < 59) (hu : u < 59) : sbo i + t ≠ sbo j + u := by
  have h1 := sbo_c i
  have h2 := sbo_c j
  omega
theorem bld_st (hi : i < 22) (ht : t < 59) (fi : Nat → Int32) (fl : Nat → Int64) (fr : Nat → Option Nat) : bld a (sbo i + t) fi fl fr = stB a (sbo i) t fi fl fr := by
  unfold bld sbo
  by_cases h0 : i = 0
  · simp only [h0, if_true]
    rw [if_neg (by omega), if_neg (by omega), if_neg (by omega), if_neg (by omega), if_neg (by omega), if_neg (by omega), if_neg (by omega), if_neg (by omega), if_neg (by omega), if_pos (by omega), show 16 + t - 16 = t by omega]
  · by_cases h1 : i = 1
    · simp only [h1, if_true, if_false, Nat.one_ne_zero]
      rw [if_neg (by omega), if_neg (by omega), if_neg (by omega), if_neg (by omega), if_neg (by omega), if_neg (by omega), if_neg (by omega), if_neg (by omega), if_neg (by omega), if_neg (by omega), if_pos (by omega), show 75 + t - 75 = t by omega]
    · simp only [h0, h1, if_false]
      rw [if_neg (by omega), if_neg (by omega), if_neg (by omega), if_neg (by omega), if_neg (by omega), if_neg (by omega), if_neg (by omega), if_neg (by omega), if_neg (by omega), if_neg (by omega), if_neg (by omega), if_neg (by omega), if_neg (by omega), if_neg (by omega), if_neg (by omega), if_neg (by omega), if_neg (by omega), if_pos (by omega), show 171 + 59 * (i - 2) + t - 171 = t + 59 * (i - 2) by omega, Nat.add_mul_div_left _ _ (by omega), Nat.add_mul_mod_self_left, Nat.div_eq_of_lt ht, Nat.mod_eq_of_lt ht, Nat.zero_add]
theorem is_taste (hi : i < 22) (hw : w < 6) : isI a (sbo i + (2 + w)) 0 6 := ⟨by have := sbo_lt hi; omega, by have := sbo_lt hi; omega, by decide, fun fi fl fr => by
  rw [bld_st hi (by omega)]
  unfold stB
  rw [if_neg (by omega), if_neg (by omega), if_pos (by omega)]⟩
theorem is_seen (hi : i < 22) (hw : w < 6) : isI a (sbo i + (9 + w)) 0 8 := ⟨by have := sbo_lt hi; omega, by have := sbo_lt hi; omega, by decide, fun fi fl fr => by
  rw [bld_st hi (by omega)]
  unfold stB
  rw [if_neg (by omega), if_neg (by omega), if_neg (by omega), if_neg (by omega), if_pos (by omega)]⟩
theorem is_saw (hi : i < 22) : isI a (sbo i + 15) 0 5 := ⟨by have := sbo_lt hi; omega, by have := sbo_lt hi; omega, by decide, fun fi fl fr => by
  rw [bld_st hi (by omega)]
  rfl⟩
theorem is_rows (hi : i < 22) : isR a (sbo i + 16) 8 40 := ⟨by have := sbo_lt hi; omega, by have := sbo_lt hi; omega, by decide, fun fi fl fr => by
  rw [bld_st hi (by omega)]
  rfl⟩
theorem is_row (hi : i < 22) (hw : w < 40) : isI a (sbo i + (17 + w)) 0 4 := ⟨by have := sbo_lt hi; omega, by have := sbo_lt hi; omega, by decide, fun fi fl fr => by
  rw [bld_st hi (by omega)]
  unfold stB
  rw [if_neg (by omega), if_neg (by omega), if_neg (by omega), if_neg (by omega), if_neg (by omega), if_neg (by omega), if_neg (by omega), if_pos (by omega)]⟩
theorem is_pleased (hi : i < 22) : isL a (sbo i + 57) 5 := ⟨by have := sbo_lt hi; omega, by have := sbo_lt hi; omega, by decide, fun fi fl fr => by
  rw [bld_st hi (by omega)]
  rfl⟩
theorem is_refused (hi : i < 22) : isI a (sbo i + 58) 0 5 := ⟨by have := sbo_lt hi; omega, by have := sbo_lt hi; omega, by decide, fun fi fl fr => by
  rw [bld_st hi (by omega)]
  rfl⟩
theorem is_tasteO (hi : i < 22) : isQ a (sbo i + 1) 8 6 (rowF (a + (sbo i + 2)) 6) := ⟨by have := sbo_lt hi; omega, by have := sbo_lt hi; omega, by decide, fun fi fl fr => by
  rw [bld_st hi (by omega)]
  rfl⟩
theorem is_seenO (hi : i < 22) : isQ a (sbo i + 8) 8 6 (rowF (a + (sbo i + 9)) 6) := ⟨by have := sbo_lt hi; omega, by have := sbo_lt hi; omega, by decide, fun fi fl fr => by
  rw [bld_st hi (by omega)]
  rfl⟩
theorem s_tasteO (hi : i < 22) (hw : w < 6) : cR K (hp a M) (some (a + (sbo i + 1))) 8 (nI w) = some (some (a + (sbo i + (2 + w)))) := by
  rw [z_cQ (is_tasteO hi) hw]
  simp [rowF, hw]
  omega
theorem s_seenO (hi : i < 22) (hw : w < 6) : cR K (hp a M) (some (a + (sbo i + 8))) 8 (nI w) = some (some (a + (sbo i + (9 + w)))) := by
  rw [z_cQ (is_seenO hi) hw]
  simp [rowF, hw]
  omega
theorem bld_s0 (hi : i < 22) (fi : Nat → Int32) (fl : Nat → Int64) (fr : Nat → Option Nat) : bld a (sbo i) fi fl fr = .inr (5, [.int (fi 0), .int (fi 1), .int (fi 2), .ref (a + (sbo i + 1)), .ref (a + (sbo i + 8)), .ref (a + (sbo i + 15)), .ref (a + (sbo i + 16)), .ref (a + (sbo i + 57)), .ref (a + (sbo i + 58)), .int (fi 9), .ref a]) := bld_st (t := 0) hi (by omega) fi fl fr
theorem s_rcv (hi : i < 22) : rcv K (hp a M) (some (a + sbo i)) 5 = some (a + sbo i) := z_rcv (by have := sbo_lt hi; omega) (by have := sbo_lt hi; omega) (bld_s0 hi _ _ _)
theorem s_g0 (hi : i < 22) : gI K (hp a M) (some (a + sbo i)) 5 0 = some (M.1 (sbo i) 0) := z_gI (by have := sbo_lt hi; omega) (by have := sbo_lt hi; omega) (bld_s0 hi _ _ _) rfl
theorem s_p0 (hi : i < 22) : pV (hp a M) (some (a + sbo i)) 5 0 (.int v) = some (hp a (mI M (sbo i) 0 v)) := z_pI (by have := sbo_lt hi; omega) (by have := sbo_lt hi; omega) (bld_s0 hi _ _ _) (Nat.le_of_ble_eq_true rfl) (by rw [bld_s0 hi]; rfl)
theorem s_g1 (hi : i < 22) : gI K (hp a M) (some (a + sbo i)) 5 1 = some (M.1 (sbo i) 1) := z_gI (by have := sbo_lt hi; omega) (by have := sbo_lt hi; omega) (bld_s0 hi _ _ _) rfl
theorem s_p1 (hi : i < 22) : pV (hp a M) (some (a + sbo i)) 5 1 (.int v) = some (hp a (mI M (sbo i) 1 v)) := z_pI (by have := sbo_lt hi; omega) (by have := sbo_lt hi; omega) (bld_s0 hi _ _ _) (Nat.le_of_ble_eq_true rfl) (by rw [bld_s0 hi]; rfl)
theorem s_g2 (hi : i < 22) : gI K (hp a M) (some (a + sbo i)) 5 2 = some (M.1 (sbo i) 2) := z_gI (by have := sbo_lt hi; omega) (by have := sbo_lt hi; omega) (bld_s0 hi _ _ _) rfl
theorem s_p2 (hi : i < 22) : pV (hp a M) (some (a + sbo i)) 5 2 (.int v) = some (hp a (mI M (sbo i) 2 v)) := z_pI (by have := sbo_lt hi; omega) (by have := sbo_lt hi; omega) (bld_s0 hi _ _ _) (Nat.le_of_ble_eq_true rfl) (by rw [bld_s0 hi]; rfl)
theorem s_g9 (hi : i < 22) : gI K (hp a M) (some (a + sbo i)) 5 9 = some (M.1 (sbo i) 9) := z_gI (by have := sbo_lt hi; omega) (by have := sbo_lt hi; omega) (bld_s0 hi _ _ _) rfl
theorem s_p9 (hi : i < 22) : pV (hp a M) (some (a + sbo i)) 5 9 (.int v) = some (hp a (mI M (sbo i) 9 v)) := z_pI (by have := sbo_lt hi; omega) (by have := sbo_lt hi; omega) (bld_s0 hi _ _ _) (Nat.le_of_ble_eq_true rfl) (by rw [bld_s0 hi]; rfl)
theorem s_g3 (hi : i < 22) : gR K (hp a M) (some (a + sbo i)) 5 3 = some (some (a + (sbo i + 1))) := z_gR (by have := sbo_lt hi; omega) (by have := sbo_lt hi; omega) (bld_s0 hi _ _ _) rfl
theorem s_g4 (hi : i < 22) : gR K (hp a M) (some (a + sbo i)) 5 4 = some (some (a + (sbo i + 8))) := z_gR (by have := sbo_lt hi; omega) (by have := sbo_lt hi; omega) (bld_s0 hi _ _ _) rfl
theorem s_g5 (hi : i < 22) : gR K (hp a M) (some (a + sbo i)) 5 5 = some (some (a + (sbo i + 15))) := z_gR (by have := sbo_lt hi; omega) (by have := sbo_lt hi; omega) (bld_s0 hi _ _ _) rfl
theorem s_g6 (hi : i < 22) : gR K (hp a M) (some (a + sbo i)) 5 6 = some (some (a + (sbo i + 16))) := z_gR (by have := sbo_lt hi; omega) (by have := sbo_lt hi; omega) (bld_s0 hi _ _ _) rfl
theorem s_g7 (hi : i < 22) : gR K (hp a M) (some (a + sbo i)) 5 7 = some (some (a + (sbo i + 57))) := z_gR (by have := sbo_lt hi; omega) (by have := sbo_lt hi; omega) (bld_s0 hi _ _ _) rfl
theorem s_g8 (hi : i < 22) : gR K (hp a M) (some (a + sbo i)) 5 8 = some (some (a + (sbo i + 58))) := z_gR (by have := sbo_lt hi; omega) (by have := sbo_lt hi; omega) (bld_s0 hi _ _ _) rfl
theorem s_g10 (hi : i < 22) : gR K (hp a M) (some (a + sbo i)) 5 10 = some (some a) := z_gR (by have := sbo_lt hi; omega) (by have := sbo_lt hi; omega) (bld_s0 hi _ _ _) rfl
-- the FourOnOne
theorem x_rcv : rcv K (hp a M) (some a) 0 = some a := z_rcv (o := 0) (by decide) (Or.inl rfl) rfl
theorem x_g2 : gI K (hp a M) (some a) 0 2 = some (M.1 0 2) := z_gI (o := 0) (by decide) (Or.inl rfl) rfl rfl
theorem x_p2 : pV (hp a M) (some a) 0 2 (.int v) = some (hp a (mI M 0 2 v)) := z_pI (o := 0) (by decide) (Or.inl rfl) rfl (Nat.le_of_ble_eq_true rfl) rfl
theorem x_g3 : gI K (hp a M) (some a) 0 3 = some (M.1 0 3) := z_gI (o := 0) (by decide) (Or.inl rfl) rfl rfl
theorem x_p3 : pV (hp a M) (some a) 0 3 (.int v) = some (hp a (mI M 0 3 v)) := z_pI (o := 0) (by decide) (Or.inl rfl) rfl (Nat.le_of_ble_eq_true rfl) rfl
theorem x_g4 : gI K (hp a M) (some a) 0 4 = some (M.1 0 4) := z_gI (o := 0) (by decide) (Or.inl rfl) rfl rfl
theorem x_p4 : pV (hp a M) (some a) 0 4 (.int v) = some (hp a (mI M 0 4 v)) := z_pI (o := 0) (by decide) (Or.inl rfl) rfl (Nat.le_of_ble_eq_true rfl) rfl
theorem x_g15 : gI K (hp a M) (some a) 0 15 = some (M.1 0 15) := z_gI (o := 0) (by decide) (Or.inl rfl) rfl rfl
theorem x_p15 : pV (hp a M) (some a) 0 15 (.int v) = some (hp a (mI M 0 15 v)) := z_pI (o := 0) (by decide) (Or.inl rfl) rfl (Nat.le_of_ble_eq_true rfl) rfl
theorem x_g17 : gI K (hp a M) (some a) 0 17 = some (M.1 0 17) := z_gI (o := 0) (by decide) (Or.inl rfl) rfl rfl
theorem x_p17 : pV (hp a M) (some a) 0 17 (.int v) = some (hp a (mI M 0 17 v)) := z_pI (o := 0) (by decide) (Or.inl rfl) rfl (Nat.le_of_ble_eq_true rfl) rfl
theorem x_g19 : gI K (hp a M) (some a) 0 19 = some (M.1 0 19) := z_gI (o := 0) (by decide) (Or.inl rfl) rfl rfl
theorem x_p19 : pV (hp a M) (some a) 0 19 (.int v) = some (hp a (mI M 0 19 v)) := z_pI (o := 0) (by decide) (Or.inl rfl) rfl (Nat.le_of_ble_eq_true rfl) rfl
theorem x_g21 : gI K (hp a M) (some a) 0 21 = some (M.1 0 21) := z_gI (o := 0) (by decide) (Or.inl rfl) rfl rfl
theorem x_p21 : pV (hp a M) (some a) 0 21 (.int v) = some (hp a (mI M 0 21 v)) := z_pI (o := 0) (by decide) (Or.inl rfl) rfl (Nat.le_of_ble_eq_true rfl) rfl
theorem x_g18 : gL K (hp a M) (some a) 0 18 = some (M.2.1 0 18) := z_gL (o := 0) (by decide) (Or.inl rfl) rfl rfl
theorem x_p18 {v : Int64} : pV (hp a M) (some a) 0 18 (.long v) = some (hp a (mL M 0 18 v)) := z_pL (o := 0) (by decide) (Or.inl rfl) rfl (Nat.le_of_ble_eq_true rfl) rfl
theorem x_g0 : gR K (hp a M) (some a) 0 0 = some (M.2.2.1 0 0) := z_gR (o := 0) (by decide) (Or.inl rfl) rfl rfl
theorem x_p0 {v : Option Nat} : pV (hp a M) (some a) 0 0 (va_rf v) = some (hp a (mR M 0 0 v)) := z_pR (o := 0) (by decide) (Or.inl rfl) rfl (Nat.le_of_ble_eq_true rfl) rfl
theorem x_g1 : gR K (hp a M) (some a) 0 1 = some (some (a + 8)) := z_gR (o := 0) (by decide) (Or.inl rfl) rfl rfl
theorem x_g5 : gR K (hp a M) (some a) 0 5 = some (some (a + 9)) := z_gR (o := 0) (by decide) (Or.inl rfl) rfl rfl
theorem x_g6 : gR K (hp a M) (some a) 0 6 = some (some (a + 11)) := z_gR (o := 0) (by decide) (Or.inl rfl) rfl rfl
theorem x_g7 : gR K (hp a M) (some a) 0 7 = some (some (a + 13)) := z_gR (o := 0) (by decide) (Or.inl rfl) rfl rfl
theorem x_g8 : gR K (hp a M) (some a) 0 8 = some (some (a + 15)) := z_gR (o := 0) (by decide) (Or.inl rfl) rfl rfl
theorem x_g9 : gR K (hp a M) (some a) 0 9 = some (some (a + sbo 0)) := z_gR (o := 0) (by decide) (Or.inl rfl) rfl rfl
theorem x_g10 : gR K (hp a M) (some a) 0 10 = some (some (a + sbo 1)) := z_gR (o := 0) (by decide) (Or.inl rfl) rfl rfl
theorem x_g11 : gR K (hp a M) (some a) 0 11 = some (some (a + 134)) := z_gR (o := 0) (by decide) (Or.inl rfl) rfl rfl
theorem x_g12 : gR K (hp a M) (some a) 0 12 = some (some (a + 167)) := z_gR (o := 0) (by decide) (Or.inl rfl) rfl rfl
theorem x_g13 : gR K (hp a M) (some a) 0 13 = some (some (a + 168)) := z_gR (o := 0) (by decide) (Or.inl rfl) rfl rfl
theorem x_g14 : gR K (hp a M) (some a) 0 14 = some (some (a + 169)) := z_gR (o := 0) (by decide) (Or.inl rfl) rfl rfl
theorem x_g16 : gR K (hp a M) (some a) 0 16 = some (some (a + 170)) := z_gR (o := 0) (by decide) (Or.inl rfl) rfl rfl
theorem x_g20 : gR K (hp a M) (some a) 0 20 = some (some (a + 1351)) := z_gR (o := 0) (by decide) (Or.inl rfl) rfl rfl
-- Reader, Fault, Moments
theorem r_rcv : rcv K (hp a M) (some (a + 9)) 2 = some (a + 9) := z_rcv (o := 9) (by decide) (by decide) rfl
theorem r_g1 : gI K (hp a M) (some (a + 9)) 2 1 = some (M.1 9 1) := z_gI (o := 9) (by decide) (by decide) rfl rfl
theorem r_p1 : pV (hp a M) (some (a + 9)) 2 1 (.int v) = some (hp a (mI M 9 1 v)) := z_pI (o := 9) (by decide) (by decide) rfl (Nat.le_of_ble_eq_true rfl) rfl
theorem r_g2 : gI K (hp a M) (some (a + 9)) 2 2 = some (M.1 9 2) := z_gI (o := 9) (by decide) (by decide) rfl rfl
theorem r_p2 : pV (hp a M) (some (a + 9)) 2 2 (.int v) = some (hp a (mI M 9 2 v)) := z_pI (o := 9) (by decide) (by decide) rfl (Nat.le_of_ble_eq_true rfl) rfl
theorem r_g3 : gI K (hp a M) (some (a + 9)) 2 3 = some (M.1 9 3) := z_gI (o := 9) (by decide) (by decide) rfl rfl
theorem r_p3 : pV (hp a M) (some (a + 9)) 2 3 (.int v) = some (hp a (mI M 9 3 v)) := z_pI (o := 9) (by decide) (by decide) rfl (Nat.le_of_ble_eq_true rfl) rfl
theorem r_g4 : gI K (hp a M) (some (a + 9)) 2 4 = some (M.1 9 4) := z_gI (o := 9) (by decide) (by decide) rfl rfl
theorem r_p4 : pV (hp a M) (some (a + 9)) 2 4 (.int v) = some (hp a (mI M 9 4 v)) := z_pI (o := 9) (by decide) (by decide) rfl (Nat.le_of_ble_eq_true rfl) rfl
theorem r_g5 : gI K (hp a M) (some (a + 9)) 2 5 = some (M.1 9 5) := z_gI (o := 9) (by decide) (by decide) rfl rfl
theorem r_p5 : pV (hp a M) (some (a + 9)) 2 5 (.int v) = some (hp a (mI M 9 5 v)) := z_pI (o := 9) (by decide) (by decide) rfl (Nat.le_of_ble_eq_true rfl) rfl
theorem r_g0 : gR K (hp a M) (some (a + 9)) 2 0 = some (some (a + 10)) := z_gR (o := 9) (by decide) (by decide) rfl rfl
theorem r_g7 : gR K (hp a M) (some (a + 9)) 2 7 = some (some a) := z_gR (o := 9) (by decide) (by decide) rfl rfl
theorem r_g6 : gR K (hp a M) (some (a + 9)) 2 6 = some (M.2.2.1 9 6) := z_gR (o := 9) (by decide) (by decide) rfl rfl
theorem r_p6 {v : Option Nat} : pV (hp a M) (some (a + 9)) 2 6 (va_rf v) = some (hp a (mR M 9 6 v)) := z_pR (o := 9) (by decide) (by decide) rfl (Nat.le_of_ble_eq_true rfl) rfl
theorem f_rcv : rcv K (hp a M) (some (a + 10)) 3 = some (a + 10) := z_rcv (o := 10) (by decide) (by decide) rfl
theorem f_g6 : gI K (hp a M) (some (a + 10)) 3 6 = some (M.1 10 6) := z_gI (o := 10) (by decide) (by decide) rfl rfl
theorem f_p6 : pV (hp a M) (some (a + 10)) 3 6 (.int v) = some (hp a (mI M 10 6 v)) := z_pI (o := 10) (by decide) (by decide) rfl (Nat.le_of_ble_eq_true rfl) rfl
theorem f_g7 : gI K (hp a M) (some (a + 10)) 3 7 = some (M.1 10 7) := z_gI (o := 10) (by decide) (by decide) rfl rfl
theorem f_p7 : pV (hp a M) (some (a + 10)) 3 7 (.int v) = some (hp a (mI M 10 7 v)) := z_pI (o := 10) (by decide) (by decide) rfl (Nat.le_of_ble_eq_true rfl) rfl
theorem m_g11 : gR K (hp a M) (some (a + 11)) 4 0 = some (some (a + 12)) := z_gR (o := 11) (by decide) (by decide) rfl rfl
theorem m_g13 : gR K (hp a M) (some (a + 13)) 4 0 = some (some (a + 14)) := z_gR (o := 13) (by decide) (by decide) rfl rfl
-- arrays of the block
theorem is_8 : isI a 8 3 1600 := ⟨by decide, by decide, by decide, fun fi fl fr => rfl⟩
theorem is_15 : isI a 15 0 6 := ⟨by decide, by decide, by decide, fun fi fl fr => rfl⟩
theorem is_167 : isI a 167 0 16 := ⟨by decide, by decide, by decide, fun fi fl fr => rfl⟩
theorem is_168 : isI a 168 0 16 := ⟨by decide, by decide, by decide, fun fi fl fr => rfl⟩
theorem is_169 : isI a 169 4 16 := ⟨by decide, by decide, by decide, fun fi fl fr => rfl⟩
theorem is_1351 : isI a 1351 3 139 := ⟨by decide, by decide, by decide, fun fi fl fr => rfl⟩
theorem is_12 : isL a 12 8 := ⟨by decide, by decide, by decide, fun fi fl fr => rfl⟩
theorem is_14 : isL a 14 8 := ⟨by decide, by decide, by decide, fun fi fl fr => rfl⟩
theorem is_170 : isR a 170 7 20 := ⟨by decide, by decide, by decide, fun fi fl fr => rfl⟩
theorem is_134 : isQ a 134 9 32 (rowF (a + 135) 32) := ⟨by decide, by decide, by decide, fun fi fl fr => rfl⟩
theorem is_by (hw : w < 32) : isL a (135 + w) 5 := ⟨by omega, by omega, by decide, fun fi fl fr => by
  unfold bld
  rw [if_neg (by omega), if_neg (by omega), if_neg (by omega), if_neg (by omega), if_neg (by omega), if_neg (by omega), if_neg (by omega), if_neg (by omega), if_neg (by omega), if_neg (by omega), if_neg (by omega), if_neg (by omega), if_pos (by omega)]⟩
theorem s_byO (hw : w < 32) : cR K (hp a M) (some (a + 134)) 9 (nI w) = some (some (a + (135 + w))) := by
  rw [z_cQ is_134 hw]
  simp [rowF, hw]
  omega
end PCM

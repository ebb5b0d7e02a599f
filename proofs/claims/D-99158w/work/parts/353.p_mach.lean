/-! PARSER, the twin's machine of sums as a pure one; that it is the pure parser -/
set_option maxRecDepth 100000
/-- what waits is told while q -/
def dw (q : Nat → Prop) [DecidablePred q] : List Nat → List Nat → List Nat × List Nat
  | [], O => ([], O)
  | o :: S, O => if q o then dw q S (O ++ [o]) else (o :: S, O)
/-- a part has ended -/
def ep : List Nat → List Nat → Nat → List Nat × List Nat × Nat
  | [], O, d => ([], O, d)
  | o :: S, O, d => if 60 ≤ o then ep S (O ++ [o]) (d - 1) else (o :: S, O, d)
abbrev isBr (o : Nat) : Prop := 20 ≤ o ∧ o ≤ 24
abbrev nBr (o : Nat) : Prop := ¬ (20 ≤ o ∧ o ≤ 24)
abbrev q34 (o : Nat) : Prop := o = 3 ∨ o = 4
abbrev q14 (o : Nat) : Prop := o = 3 ∨ o = 4 ∨ o = 1 ∨ o = 2
/-- the bracket that is open last; 0: none -/
def brS : List Nat → Nat
  | [] => 0
  | o :: S => if isBr o then o else brS S
/-- the word here that stands for a part -/
def wdA (B : Nat → Nat) (L m p : Nat) : Option Nat := if LEa B L (sk B L p) ∧ ¬ PT B (sk B L p) then (match fd B (sk B L p) (we B L (sk B L p)) askL with
  | some j => if alw m j then some j else none
  | none => none) else none
def xM (B : Nat → Nat) (L m : Nat) : Nat → Bool → Nat → List Nat → List Nat → Nat → PRes
  | 0, _, p, _, _, _ => .inl (0, p)
  | n + 1, true, p, S, O, d =>
    if SI B L (sk B L p) 40 then openP d (sk B L p) (xM B L m n true (sk B L p + 1) (20 :: S) O (d + 1))
    else if HW B L (sk B L p) (wdL 81) then (if SI B L (sk B L (we B L (sk B L p))) 40 then openP d (sk B L (we B L (sk B L p))) (xM B L m n true (sk B L (we B L (sk B L p)) + 1) (21 :: S) O (d + 1)) else .inl (1, sk B L (we B L (sk B L p))))
    else if HW B L (sk B L p) (wdL 82) then (if SI B L (sk B L (we B L (sk B L p))) 40 then openP d (sk B L (we B L (sk B L p))) (xM B L m n true (sk B L (we B L (sk B L p)) + 1) (22 :: S) O (d + 1)) else .inl (1, sk B L (we B L (sk B L p))))
    else if m = 3 ∧ HW B L (sk B L p) (wdL 85) then openP d (sk B L p) (xM B L m n true (we B L (sk B L p)) (60 :: S) O (d + 1))
    else (match wdA B L m p with
      | some j => xM B L m n false (we B L (sk B L p)) (ep S (O ++ [40 + j]) d).1 (ep S (O ++ [40 + j]) d).2.1 (ep S (O ++ [40 + j]) d).2.2
      | none => (match nu B L 0 9999 p with
        | .inl e => .inl e
        | .inr (r, v) => xM B L m n false r (ep S (O ++ [1000 + v]) d).1 (ep S (O ++ [1000 + v]) d).2.1 (ep S (O ++ [1000 + v]) d).2.2))
  | n + 1, false, p, S, O, d =>
    if SI B L (sk B L p) 41 ∧ (brS S = 20 ∨ brS S = 23 ∨ brS S = 24) then
      (fun r : List Nat × List Nat × Nat => xM B L m n false (sk B L p + 1) r.1 r.2.1 r.2.2) (ep (dw nBr S O).1.tail (if brS S = 20 then (dw nBr S O).2 else (dw nBr S O).2 ++ [if brS S = 23 then 5 else 6]) (d - 1))
    else if SI B L (sk B L p) 42 then xM B L m n true (sk B L p + 1) (3 :: (dw q34 S O).1) (dw q34 S O).2 d
    else if SI B L (sk B L p) 47 then xM B L m n true (sk B L p + 1) (4 :: (dw q34 S O).1) (dw q34 S O).2 d
    else if SI B L (sk B L p) 43 then xM B L m n true (sk B L p + 1) (1 :: (dw q14 S O).1) (dw q14 S O).2 d
    else if SI B L (sk B L p) 45 then xM B L m n true (sk B L p + 1) (2 :: (dw q14 S O).1) (dw q14 S O).2 d
    else if brS S = 21 ∨ brS S = 22 then (if SI B L (sk B L p) 44 then xM B L m n true (sk B L p + 1) ((brS S + 2) :: (dw nBr S O).1.tail) (dw nBr S O).2 d else .inl (1, sk B L p))
    else if brS S = 0 then .inr (sk B L p, O ++ S) else .inl (1, sk B L p)
section PMA
variable {B : Nat → Nat} {L m p q p1 d k c o n n' j v r : Nat} {S S' O O' cs c1 : List Nat} {rs : Nat → Nat → Nat → PRes}
theorem xM_f : ∀ (n n' : Nat) (g : Bool) (p : Nat) (S O : List Nat) (d : Nat), p ≤ L → 2 * (L - p) + (if g then 2 else 1) ≤ n → 2 * (L - p) + (if g then 2 else 1) ≤ n' → xM B L m n g p S O d = xM B L m n' g p S O d
  | 0, n', g, p, S, O, d, hp, h1, h2 => by
    cases g
    · rw [if_neg (by decide)] at h1; omega
    · rw [if_pos rfl] at h1; omega
  | n + 1, 0, g, p, S, O, d, hp, h1, h2 => by
    cases g
    · rw [if_neg (by decide)] at h2; omega
    · rw [if_pos rfl] at h2; omega
  | n + 1, n' + 1, g, p, S, O, d, hp, h1, h2 => by
    have qg := @sk_ge p L B
    have ql := @sk_le p L B hp
    have wg := @we_ge (sk B L p) L B
    have wl := @we_le (sk B L p) L B ql
    have qg2 := @sk_ge (we B L (sk B L p)) L B
    cases g
    · rw [if_neg (by decide)] at h1 h2
      have toG : ∀ S O d, sk B L p < L → xM B L m n false (sk B L p + 1) S O d = xM B L m n' false (sk B L p + 1) S O d := fun S O d hl => xM_f n n' false _ S O d (by omega) (by rw [if_neg (by decide)]; omega) (by rw [if_neg (by decide)]; omega)
      have toA : ∀ S O d, sk B L p < L → xM B L m n true (sk B L p + 1) S O d = xM B L m n' true (sk B L p + 1) S O d := fun S O d hl => xM_f n n' true _ S O d (by omega) (by rw [if_pos rfl]; omega) (by rw [if_pos rfl]; omega)
      rw [xM, xM]
      split
      · rename_i z
        exact toG _ _ _ z.1.1
      split
      · rename_i z
        exact toA _ _ _ z.1
      split
      · rename_i z
        exact toA _ _ _ z.1
      split
      · rename_i z
        exact toA _ _ _ z.1
      split
      · rename_i z
        exact toA _ _ _ z.1
      split
      · split
        · rename_i z
          exact toA _ _ _ z.1
        · rfl
      · rfl
    · rw [if_pos rfl] at h1 h2
      rw [xM, xM]
      split
      · rename_i z
        have z1 := z.1
        rw [xM_f n n' true (sk B L p + 1) _ _ _ (by omega) (by rw [if_pos rfl]; omega) (by rw [if_pos rfl]; omega)]
      split
      · rename_i z
        have z1 := we_gt z.1.1
        split
        · rename_i y
          have y1 := y.1
          rw [xM_f n n' true (sk B L (we B L (sk B L p)) + 1) _ _ _ (by omega) (by rw [if_pos rfl]; omega) (by rw [if_pos rfl]; omega)]
        · rfl
      split
      · rename_i z
        have z1 := we_gt z.1.1
        split
        · rename_i y
          have y1 := y.1
          rw [xM_f n n' true (sk B L (we B L (sk B L p)) + 1) _ _ _ (by omega) (by rw [if_pos rfl]; omega) (by rw [if_pos rfl]; omega)]
        · rfl
      split
      · rename_i z
        have z1 := we_gt z.2.1.1
        rw [xM_f n n' true (we B L (sk B L p)) _ _ _ (by omega) (by rw [if_pos rfl]; omega) (by rw [if_pos rfl]; omega)]
      split
      · exact xM_f n n' false _ _ _ _ wl (by rw [if_neg (by decide)]; omega) (by rw [if_neg (by decide)]; omega)
      · have ni := nu_i (B := B) (L := L) (lo := 0) (hi := 9999) hp
        split
        · rfl
        · rename_i r v hn
          rw [hn] at ni
          obtain ⟨⟨n1, n2⟩, -⟩ := ni
          exact xM_f n n' false _ _ _ _ n2 (by rw [if_neg (by decide)]; omega) (by rw [if_neg (by decide)]; omega)
variable (B L m) in
/-- a part is expected -/
def xA (p : Nat) (S O : List Nat) (d : Nat) : PRes := xM B L m (2 * (L - p) + 2) true p S O d
variable (B L m) in
/-- behind a part -/
def xG (p : Nat) (S O : List Nat) (d : Nat) : PRes := xM B L m (2 * (L - p) + 1) false p S O d
variable (B L m) in
/-- a part has ended -/
def xE (p : Nat) (S O : List Nat) (d : Nat) : PRes := xG B L m p (ep S O d).1 (ep S O d).2.1 (ep S O d).2.2
theorem xA_e (hp : p ≤ L) (h : 2 * (L - p) + 2 ≤ n) : xM B L m n true p S O d = xA B L m p S O d := xM_f n _ true p S O d hp (by rw [if_pos rfl]; omega) (by rw [if_pos rfl]; omega)
theorem xG_e (hp : p ≤ L) (h : 2 * (L - p) + 1 ≤ n) : xM B L m n false p S O d = xG B L m p S O d := xM_f n _ false p S O d hp (by rw [if_neg (by decide)]; omega) (by rw [if_neg (by decide)]; omega)
/-- one step where a part is expected -/
theorem xA_s (hp : p ≤ L) : xA B L m p S O d =
    if SI B L (sk B L p) 40 then openP d (sk B L p) (xA B L m (sk B L p + 1) (20 :: S) O (d + 1))
    else if HW B L (sk B L p) (wdL 81) then (if SI B L (sk B L (we B L (sk B L p))) 40 then openP d (sk B L (we B L (sk B L p))) (xA B L m (sk B L (we B L (sk B L p)) + 1) (21 :: S) O (d + 1)) else .inl (1, sk B L (we B L (sk B L p))))
    else if HW B L (sk B L p) (wdL 82) then (if SI B L (sk B L (we B L (sk B L p))) 40 then openP d (sk B L (we B L (sk B L p))) (xA B L m (sk B L (we B L (sk B L p)) + 1) (22 :: S) O (d + 1)) else .inl (1, sk B L (we B L (sk B L p))))
    else if m = 3 ∧ HW B L (sk B L p) (wdL 85) then openP d (sk B L p) (xA B L m (we B L (sk B L p)) (60 :: S) O (d + 1))
    else (match wdA B L m p with
      | some j => xE B L m (we B L (sk B L p)) S (O ++ [40 + j]) d
      | none => (match nu B L 0 9999 p with
        | .inl e => .inl e
        | .inr (r, v) => xE B L m r S (O ++ [1000 + v]) d)) := by
  have qg := @sk_ge p L B
  have ql := @sk_le p L B hp
  have wg := @we_ge (sk B L p) L B
  have wl := @we_le (sk B L p) L B ql
  have qg2 := @sk_ge (we B L (sk B L p)) L B
  unfold xA
  rw [xM]
  split
  · rename_i z
    have z1 := z.1
    rw [xA_e (by omega) (by omega)]
    rfl
  split
  · rename_i z
    have z1 := we_gt z.1.1
    split
    · rename_i y
      have y1 := y.1
      rw [xA_e (by omega) (by omega)]
      rfl
    · rfl
  split
  · rename_i z
    have z1 := we_gt z.1.1
    split
    · rename_i y
      have y1 := y.1
      rw [xA_e (by omega) (by omega)]
      rfl
    · rfl
  split
  · rename_i z
    have z1 := we_gt z.2.1.1
    rw [xA_e (by omega) (by omega)]
    rfl
  split
  · rw [xG_e wl (by omega)]
    rfl
  · have ni := nu_i (B := B) (L := L) (lo := 0) (hi := 9999) hp
    split
    · rfl
    · rename_i r v hn
      rw [hn] at ni
      obtain ⟨⟨n1, n2⟩, -⟩ := ni
      rw [xG_e n2 (by omega)]
      rfl
/-- one step behind a part -/
theorem xG_s (hp : p ≤ L) : xG B L m p S O d =
    if SI B L (sk B L p) 41 ∧ (brS S = 20 ∨ brS S = 23 ∨ brS S = 24) then xE B L m (sk B L p + 1) (dw nBr S O).1.tail (if brS S = 20 then (dw nBr S O).2 else (dw nBr S O).2 ++ [if brS S = 23 then 5 else 6]) (d - 1)
    else if SI B L (sk B L p) 42 then xA B L m (sk B L p + 1) (3 :: (dw q34 S O).1) (dw q34 S O).2 d
    else if SI B L (sk B L p) 47 then xA B L m (sk B L p + 1) (4 :: (dw q34 S O).1) (dw q34 S O).2 d
    else if SI B L (sk B L p) 43 then xA B L m (sk B L p + 1) (1 :: (dw q14 S O).1) (dw q14 S O).2 d
    else if SI B L (sk B L p) 45 then xA B L m (sk B L p + 1) (2 :: (dw q14 S O).1) (dw q14 S O).2 d
    else if brS S = 21 ∨ brS S = 22 then (if SI B L (sk B L p) 44 then xA B L m (sk B L p + 1) ((brS S + 2) :: (dw nBr S O).1.tail) (dw nBr S O).2 d else .inl (1, sk B L p))
    else if brS S = 0 then .inr (sk B L p, O ++ S) else .inl (1, sk B L p) := by
  have qg := @sk_ge p L B
  have ql := @sk_le p L B hp
  unfold xG
  rw [xM]
  split
  · rename_i z
    have z1 := z.1.1
    show xM B L m (2 * (L - p)) false (sk B L p + 1) _ _ _ = _
    rw [xG_e (by omega) (by omega)]
    rfl
  split
  · rename_i z
    have z1 := z.1
    exact xA_e (by omega) (by omega)
  split
  · rename_i z
    have z1 := z.1
    exact xA_e (by omega) (by omega)
  split
  · rename_i z
    have z1 := z.1
    exact xA_e (by omega) (by omega)
  split
  · rename_i z
    have z1 := z.1
    exact xA_e (by omega) (by omega)
  split
  · split
    · rename_i z
      have z1 := z.1
      exact xA_e (by omega) (by omega)
    · rfl
  · rfl
theorem xG_sk (hp : p ≤ L) : xG B L m (sk B L p) S O d = xG B L m p S O d := by
  rw [xG_s (sk_le hp), xG_s hp, sk_sk]
/-- * and / may be told ahead -/
theorem pend3 (ho : q34 o) (hp : p ≤ L) : xG B L m p (o :: S) O d = xG B L m p S (O ++ [o]) d := by
  have nb : ¬ isBr o := fun z => by have := z.1; omega
  have b1 : brS (o :: S) = brS S := by rw [brS, if_neg nb]
  have d1 : dw nBr (o :: S) O = dw nBr S (O ++ [o]) := by rw [dw, if_pos nb]
  have d2 : dw q34 (o :: S) O = dw q34 S (O ++ [o]) := by rw [dw, if_pos ho]
  have d3 : dw q14 (o :: S) O = dw q14 S (O ++ [o]) := by rw [dw, if_pos (ho.elim Or.inl (fun h => Or.inr (Or.inl h)))]
  rw [xG_s hp, xG_s hp, b1, d1, d2, d3]
  simp only [List.append_assoc, List.cons_append, List.nil_append]
/-- + and - too, where neither * nor / stands -/
theorem pend1 (ho : q14 o) (hp : p ≤ L) (n1 : ¬ SI B L (sk B L p) 42) (n2 : ¬ SI B L (sk B L p) 47) : xG B L m p (o :: S) O d = xG B L m p S (O ++ [o]) d := by
  have nb : ¬ isBr o := fun z => by have := z.1; omega
  have b1 : brS (o :: S) = brS S := by rw [brS, if_neg nb]
  have d1 : dw nBr (o :: S) O = dw nBr S (O ++ [o]) := by rw [dw, if_pos nb]
  have d3 : dw q14 (o :: S) O = dw q14 S (O ++ [o]) := by rw [dw, if_pos ho]
  rw [xG_s hp, xG_s hp, b1, d1, d3, if_neg n1, if_neg n2, if_neg n1, if_neg n2]
  simp only [List.append_assoc, List.cons_append, List.nil_append]
/-- the top of what waits -/
def hd (S : List Nat) : Nat := S.headD 0
theorem dw_n {q : Nat → Prop} [DecidablePred q] (h : S = [] ∨ ¬ q (hd S)) : dw q S O = (S, O) := by
  cases S with
  | nil => rfl
  | cons o S =>
    rcases h with h | h
    · cases h
    · have h : ¬ q o := h
      rw [dw, if_neg h]
theorem ep_n (h : hd S < 60) : ep S O d = (S, O, d) := by
  cases S with
  | nil => rfl
  | cons o S => rw [ep, if_neg (by have : o < 60 := h; omega)]
theorem xE_n (h : hd S < 60) : xE B L m p S O d = xG B L m p S O d := by
  unfold xE
  rw [ep_n h]
variable (B L m) in
/-- an atom's answer told by the machine -/
def simA (pr : PRes) (p : Nat) (S O : List Nat) (d : Nat) : Prop := match pr with
  | .inl e => xA B L m p S O d = .inl e
  | .inr (p', cs) => xA B L m p S O d = xE B L m p' S (O ++ cs) d
variable (B L m) in
/-- a sum's answer -/
def simS (pr : PRes) (p : Nat) (S O : List Nat) (d : Nat) : Prop := match pr with
  | .inl e => xA B L m p S O d = .inl e
  | .inr (p', cs) => xA B L m p S O d = xG B L m p' S (O ++ cs) d ∧ ¬ SI B L (sk B L p') 42 ∧ ¬ SI B L (sk B L p') 47
variable (B L m) in
def simT (pr : PRes) (p : Nat) (S O : List Nat) (d : Nat) : Prop := simS B L m pr p S O d ∧ (match pr with
  | .inl _ => True
  | .inr (p', _) => ¬ SI B L (sk B L p') 43 ∧ ¬ SI B L (sk B L p') 45)
theorem brS_c (h : isBr o) : brS (o :: S) = o := by rw [brS, if_pos h]
theorem dwB (h : isBr o) : dw nBr (o :: S) O = (o :: S, O) := dw_n (Or.inr (fun z => z h))
/-- one step behind a sum in brackets -/
theorem xG_b (hp : p ≤ L) (hb : isBr o) (n1 : ¬ SI B L (sk B L p) 42) (n2 : ¬ SI B L (sk B L p) 47) (n3 : ¬ SI B L (sk B L p) 43) (n4 : ¬ SI B L (sk B L p) 45) : xG B L m p (o :: S) O d =
    if o = 21 ∨ o = 22 then (if SI B L (sk B L p) 44 then xA B L m (sk B L p + 1) ((o + 2) :: S) O d else .inl (1, sk B L p))
    else if SI B L (sk B L p) 41 then xE B L m (sk B L p + 1) S (if o = 20 then O else O ++ [if o = 23 then 5 else 6]) (d - 1) else .inl (1, sk B L p) := by
  rw [xG_s hp, brS_c hb, dwB hb, if_neg n1, if_neg n2, if_neg n3, if_neg n4]
  have h1 := hb.1
  have h2 := hb.2
  by_cases z : o = 21 ∨ o = 22
  · rw [if_neg (by omega), if_pos z, if_pos z]
    rfl
  · rw [if_neg z, if_neg z, if_neg (show ¬ o = 0 by omega)]
    by_cases y : SI B L (sk B L p) 41
    · rw [if_pos ⟨y, by omega⟩, if_pos y]
      rfl
    · rw [if_neg (fun x => y x.1), if_neg y]
theorem withinM {S : List Nat} (hk : k ≤ 2) (hp : p ≤ L) (h0 : d ≠ 6 → ∀ p S O, p ≤ L → (S = [] ∨ isBr (hd S)) → simT B L m (rs 0 (d + 1) p) p S O (d + 1)) (hok : d ≠ 6 → ∀ t p, p ≤ L → okP B L m p (rs t (d + 1) p)) :
    match withinP B L rs k d p with
    | .inl e => (if SI B L (sk B L p) 40 then openP d (sk B L p) (xA B L m (sk B L p + 1) ((20 + k) :: S) O (d + 1)) else .inl (1, sk B L p)) = .inl e
    | .inr (p', cs) => (if SI B L (sk B L p) 40 then openP d (sk B L p) (xA B L m (sk B L p + 1) ((20 + k) :: S) O (d + 1)) else .inl (1, sk B L p)) = xE B L m p' S (O ++ cs) d := by
  unfold withinP openP
  by_cases z : SI B L (sk B L p) 40
  rotate_left
  · rw [if_neg z]
    show (if SI B L (sk B L p) 40 then _ else _) = _
    rw [if_neg z]
  rw [if_pos z]
  by_cases d6 : d = 6
  · rw [if_pos d6]
    show (if SI B L (sk B L p) 40 then _ else _) = _
    rw [if_pos z, if_pos d6]
  rw [if_neg d6]
  have z1 := z.1
  have I := h0 d6 (sk B L p + 1) ((20 + k) :: S) O z1 (Or.inr ⟨by show 20 ≤ 20 + k; omega, by show 20 + k ≤ 24; omega⟩)
  have ok := hok d6 0 (sk B L p + 1) z1
  rw [if_pos z, if_neg d6]
  cases hpr : rs 0 (d + 1) (sk B L p + 1) with
  | inl e =>
    rw [hpr] at I
    exact I.1
  | inr e =>
    obtain ⟨p1, c1⟩ := e
    rw [hpr] at I ok
    obtain ⟨⟨i1, i2, i3⟩, i4, i5⟩ := I
    have o2 := ok.1.2.1
    rw [i1, xG_b o2 ⟨by omega, by omega⟩ i2 i3 i4 i5]
    by_cases k0 : k = 0
    · subst k0
      rw [if_neg (by omega)]
      show (match (if 0 = 0 then mustP B L p1 41 fun p2 => .inr (p2, c1) else mustP B L p1 44 fun p2 => pb (rs 0 (d + 1) p2) fun p3 c2 => mustP B L p3 41 fun p4 => .inr (p4, c1 ++ c2 ++ [0 + 4]) : PRes) with | .inl e => _ | .inr (p', cs) => _)
      rw [if_pos rfl]
      by_cases y : SI B L (sk B L p1) 41
      · rw [mustP_p y]
        show (if SI B L (sk B L p1) 41 then _ else _) = _
        rw [if_pos y]
        rfl
      · rw [mustP_n y]
        show (if SI B L (sk B L p1) 41 then _ else _) = _
        rw [if_neg y]
    · rw [if_pos (by omega)]
      show (match (if k = 0 then _ else mustP B L p1 44 fun p2 => pb (rs 0 (d + 1) p2) fun p3 c2 => mustP B L p3 41 fun p4 => .inr (p4, c1 ++ c2 ++ [k + 4])) with | .inl e => _ | .inr (p', cs) => _)
      rw [if_neg k0]
      by_cases y : SI B L (sk B L p1) 44
      rotate_left
      · rw [mustP_n y]
        show (if SI B L (sk B L p1) 44 then _ else _) = _
        rw [if_neg y]
      rw [mustP_p y, if_pos y]
      have y1 := y.1
      have I2 := h0 d6 (sk B L p1 + 1) ((20 + k + 2) :: S) (O ++ c1) y1 (Or.inr ⟨by show 20 ≤ 20 + k + 2; omega, by show 20 + k + 2 ≤ 24; omega⟩)
      have ok2 := hok d6 0 (sk B L p1 + 1) y1
      show (match (pb (rs 0 (d + 1) (sk B L p1 + 1)) fun p3 c2 => mustP B L p3 41 fun p4 => .inr (p4, c1 ++ c2 ++ [k + 4])) with | .inl e => _ | .inr (p', cs) => _)
      cases hpr2 : rs 0 (d + 1) (sk B L p1 + 1) with
      | inl e =>
        rw [hpr2] at I2
        exact I2.1
      | inr e =>
        obtain ⟨p3, c2⟩ := e
        rw [hpr2] at I2 ok2
        obtain ⟨⟨j1, j2, j3⟩, j4, j5⟩ := I2
        have o3 := ok2.1.2.1
        rw [j1, xG_b o3 ⟨by omega, by omega⟩ j2 j3 j4 j5, if_neg (by omega)]
        show (match (mustP B L p3 41 fun p4 => .inr (p4, c1 ++ c2 ++ [k + 4])) with | .inl e => _ | .inr (p', cs) => _)
        by_cases x : SI B L (sk B L p3) 41
        · rw [mustP_p x]
          show (if SI B L (sk B L p3) 41 then _ else _) = _
          rw [if_pos x, if_neg (by omega)]
          have : (if 20 + k + 2 = 23 then 5 else 6) = k + 4 := by
            by_cases k1 : k = 1
            · rw [k1]; rfl
            · obtain rfl : k = 2 := by omega
              rfl
          rw [this, List.append_assoc, List.append_assoc, List.append_assoc]
          rfl
        · rw [mustP_n x]
          show (if SI B L (sk B L p3) 41 then _ else _) = _
          rw [if_neg x]
end PMA

/-! PARSER, the twin's machine of tests as a pure one; that it is the pure parser -/
set_option maxRecDepth 100000
/-- what says not is told -/
def en : List Nat → List Nat → Nat → List Nat × List Nat × Nat
  | [], O, d => ([], O, d)
  | o :: S, O, d => if o = 12 then en S (O ++ [o]) (d - 1) else (o :: S, O, d)
abbrev n25 (o : Nat) : Prop := ¬ o = 25
abbrev e10 (o : Nat) : Prop := o = 10
abbrev e1011 (o : Nat) : Prop := o = 10 ∨ o = 11
/-- one fact -/
def tF (B : Nat → Nat) (L m d p : Nat) (O : List Nat) : PRes :=
  if HW B L (sk B L p) (wdL 80) then .inr (we B L (sk B L p), O ++ [13])
  else pb (xA B L m p [] O d) fun p1 O1 =>
    if SI B L (sk B L p1) 60 then pb (xA B L m (sk B L p1 + 1) [] O1 d) fun p2 O2 => .inr (p2, O2 ++ [7])
    else if SI B L (sk B L p1) 62 then pb (xA B L m (sk B L p1 + 1) [] O1 d) fun p2 O2 => .inr (p2, O2 ++ [8])
    else if SI B L (sk B L p1) 61 then pb (xA B L m (sk B L p1 + 1) [] O1 d) fun p2 O2 => .inr (p2, O2 ++ [9])
    else .inl (1, sk B L p1)
def tM (B : Nat → Nat) (L m : Nat) : Nat → Bool → Nat → List Nat → List Nat → Nat → PRes
  | 0, _, p, _, _, _ => .inl (0, p)
  | n + 1, true, p, S, O, d =>
    if SI B L (sk B L p) 91 then openP d (sk B L p) (tM B L m n true (sk B L p + 1) (25 :: S) O (d + 1))
    else if HW B L (sk B L p) (wdL 77) then openP d (sk B L p) (tM B L m n true (we B L (sk B L p)) (12 :: S) O (d + 1))
    else pb (tF B L m d p O) fun p1 O1 => tM B L m n false p1 (en S O1 d).1 (en S O1 d).2.1 (en S O1 d).2.2
  | n + 1, false, p, S, O, d =>
    if SI B L (sk B L p) 93 ∧ 25 ∈ S then (fun r : List Nat × List Nat × Nat => tM B L m n false (sk B L p + 1) r.1 r.2.1 r.2.2) (en (dw n25 S O).1.tail (dw n25 S O).2 (d - 1))
    else if HW B L (sk B L p) (wdL 78) then tM B L m n true (we B L (sk B L p)) (10 :: (dw e10 S O).1) (dw e10 S O).2 d
    else if HW B L (sk B L p) (wdL 79) then tM B L m n true (we B L (sk B L p)) (11 :: (dw e1011 S O).1) (dw e1011 S O).2 d
    else if 25 ∈ S then .inl (1, sk B L p) else .inr (sk B L p, O ++ S)
section PTM
variable {B : Nat → Nat} {L m p q p1 d k c o n n' j v r x y kk : Nat} {S S' O O' cs c1 : List Nat} {rs : Nat → Nat → Nat → PRes} {one : Nat → PRes}
theorem xA_i {O1 : List Nat} (hd6 : d ≤ 6) (hp : p ≤ L) (h : xA B L m p [] O d = .inr (p1, O1)) : p < p1 ∧ p1 ≤ L ∧ sk B L p1 = p1 := by
  have hok : d ≠ 6 → ∀ t p, p ≤ L → okP B L m p (psD B L m 64 t (d + 1) p) := fun h t p hp => psD_ok 64 t (d + 1) p (by omega) (by omega) hp
  have ok := sum_ok (B := B) (m := m) (rs := psD B L m 64) (d := d) hp hok
  rw [sumM_top (n := 64) hd6 hp (by omega)] at h
  cases hpr : sumP B L m (psD B L m 64) d p with
  | inl e =>
    rw [hpr] at h
    cases h
  | inr e =>
    obtain ⟨p2, c2⟩ := e
    rw [hpr] at h ok
    cases h
    have o1 := ok.1
    have g := @sk_ge p2 L B
    have l := @sk_le p2 L B o1.2.1
    exact ⟨by omega, l, sk_sk⟩
theorem tF_i {O1 : List Nat} (hd6 : d ≤ 6) (hp : p ≤ L) (h : tF B L m d p O = .inr (p1, O1)) : p ≤ p1 ∧ p1 ≤ L := by
  have qg := @sk_ge p L B
  have ql := @sk_le p L B hp
  unfold tF at h
  by_cases z : HW B L (sk B L p) (wdL 80)
  · rw [if_pos z] at h
    cases h
    have := @we_ge (sk B L p) L B
    exact ⟨by omega, we_le ql⟩
  rw [if_neg z] at h
  cases hx : xA B L m p [] O d with
  | inl e =>
    rw [hx] at h
    cases h
  | inr e =>
    obtain ⟨p2, O2⟩ := e
    obtain ⟨a1, a2, a3⟩ := xA_i hd6 hp hx
    rw [hx] at h
    have go : ∀ c, sk B L p2 < L → (pb (xA B L m (sk B L p2 + 1) [] O2 d) fun p2 O2 => (.inr (p2, O2 ++ [c]) : PRes)) = .inr (p1, O1) → p ≤ p1 ∧ p1 ≤ L := fun c hl g => by
      cases hx2 : xA B L m (sk B L p2 + 1) [] O2 d with
      | inl e =>
        rw [hx2] at g
        cases g
      | inr e =>
        obtain ⟨p3, O3⟩ := e
        obtain ⟨b1, b2, b3⟩ := xA_i hd6 hl hx2
        rw [hx2] at g
        cases g
        have := @sk_ge p2 L B
        exact ⟨by omega, b2⟩
    have h' : (if SI B L (sk B L p2) 60 then pb (xA B L m (sk B L p2 + 1) [] O2 d) fun p2 O2 => .inr (p2, O2 ++ [7]) else if SI B L (sk B L p2) 62 then pb (xA B L m (sk B L p2 + 1) [] O2 d) fun p2 O2 => .inr (p2, O2 ++ [8]) else if SI B L (sk B L p2) 61 then pb (xA B L m (sk B L p2 + 1) [] O2 d) fun p2 O2 => .inr (p2, O2 ++ [9]) else .inl (1, sk B L p2)) = (.inr (p1, O1) : PRes) := h
    by_cases y : SI B L (sk B L p2) 60
    · rw [if_pos y] at h'
      exact go 7 y.1 h'
    rw [if_neg y] at h'
    by_cases y : SI B L (sk B L p2) 62
    · rw [if_pos y] at h'
      exact go 8 y.1 h'
    rw [if_neg y] at h'
    by_cases y : SI B L (sk B L p2) 61
    · rw [if_pos y] at h'
      exact go 9 y.1 h'
    rw [if_neg y] at h'
    cases h'
theorem en_d : ∀ (S O : List Nat) (d : Nat), (en S O d).2.2 ≤ d
  | [], O, d => Nat.le_refl d
  | o :: S, O, d => by
    rw [en]
    by_cases h : o = 12
    · rw [if_pos h]
      have := en_d S (O ++ [o]) (d - 1)
      omega
    · rw [if_neg h]
      exact Nat.le_refl d
theorem tM_f : ∀ (n n' : Nat) (g : Bool) (p : Nat) (S O : List Nat) (d : Nat), d ≤ 6 → p ≤ L → 2 * (L - p) + (if g then 2 else 1) ≤ n → 2 * (L - p) + (if g then 2 else 1) ≤ n' → tM B L m n g p S O d = tM B L m n' g p S O d
  | 0, n', g, p, S, O, d, hd6, hp, h1, h2 => by
    cases g
    · rw [if_neg (by decide)] at h1; omega
    · rw [if_pos rfl] at h1; omega
  | n + 1, 0, g, p, S, O, d, hd6, hp, h1, h2 => by
    cases g
    · rw [if_neg (by decide)] at h2; omega
    · rw [if_pos rfl] at h2; omega
  | n + 1, n' + 1, g, p, S, O, d, hd6, hp, h1, h2 => by
    have qg := @sk_ge p L B
    have ql := @sk_le p L B hp
    have wg := @we_ge (sk B L p) L B
    have wl := @we_le (sk B L p) L B ql
    cases g
    · rw [if_neg (by decide)] at h1 h2
      rw [tM, tM]
      split
      · rename_i z
        have z1 := z.1.1
        exact tM_f n n' false _ _ _ _ (by have := en_d (dw n25 S O).1.tail (dw n25 S O).2 (d - 1); omega) (by omega) (by rw [if_neg (by decide)]; omega) (by rw [if_neg (by decide)]; omega)
      split
      · rename_i z
        have z1 := we_gt z.1.1
        exact tM_f n n' true _ _ _ _ hd6 wl (by rw [if_pos rfl]; omega) (by rw [if_pos rfl]; omega)
      split
      · rename_i z
        have z1 := we_gt z.1.1
        exact tM_f n n' true _ _ _ _ hd6 wl (by rw [if_pos rfl]; omega) (by rw [if_pos rfl]; omega)
      · rfl
    · rw [if_pos rfl] at h1 h2
      rw [tM, tM]
      split
      · rename_i z
        have z1 := z.1
        unfold openP
        by_cases d6 : d = 6
        · rw [if_pos d6, if_pos d6]
        · rw [if_neg d6, if_neg d6]
          exact tM_f n n' true _ _ _ _ (by omega) (by omega) (by rw [if_pos rfl]; omega) (by rw [if_pos rfl]; omega)
      split
      · rename_i z
        have z1 := we_gt z.1.1
        unfold openP
        by_cases d6 : d = 6
        · rw [if_pos d6, if_pos d6]
        · rw [if_neg d6, if_neg d6]
          exact tM_f n n' true _ _ _ _ (by omega) wl (by rw [if_pos rfl]; omega) (by rw [if_pos rfl]; omega)
      · cases hf : tF B L m d p O with
        | inl e => rfl
        | inr e =>
          obtain ⟨p1, O1⟩ := e
          obtain ⟨f1, f2⟩ := tF_i hd6 hp hf
          exact tM_f n n' false _ _ _ _ (by have := en_d S O1 d; omega) f2 (by rw [if_neg (by decide)]; omega) (by rw [if_neg (by decide)]; omega)
variable (B L m) in
def yA (p : Nat) (S O : List Nat) (d : Nat) : PRes := tM B L m (2 * (L - p) + 2) true p S O d
variable (B L m) in
def yG (p : Nat) (S O : List Nat) (d : Nat) : PRes := tM B L m (2 * (L - p) + 1) false p S O d
variable (B L m) in
def yE (p : Nat) (S O : List Nat) (d : Nat) : PRes := yG B L m p (en S O d).1 (en S O d).2.1 (en S O d).2.2
theorem yA_e (hd6 : d ≤ 6) (hp : p ≤ L) (h : 2 * (L - p) + 2 ≤ n) : tM B L m n true p S O d = yA B L m p S O d := tM_f n _ true p S O d hd6 hp (by rw [if_pos rfl]; omega) (by rw [if_pos rfl]; omega)
theorem yG_e (hd6 : d ≤ 6) (hp : p ≤ L) (h : 2 * (L - p) + 1 ≤ n) : tM B L m n false p S O d = yG B L m p S O d := tM_f n _ false p S O d hd6 hp (by rw [if_neg (by decide)]; omega) (by rw [if_neg (by decide)]; omega)
theorem yA_s (hd6 : d ≤ 6) (hp : p ≤ L) : yA B L m p S O d =
    if SI B L (sk B L p) 91 then openP d (sk B L p) (yA B L m (sk B L p + 1) (25 :: S) O (d + 1))
    else if HW B L (sk B L p) (wdL 77) then openP d (sk B L p) (yA B L m (we B L (sk B L p)) (12 :: S) O (d + 1))
    else pb (tF B L m d p O) fun p1 O1 => yE B L m p1 S O1 d := by
  have qg := @sk_ge p L B
  have ql := @sk_le p L B hp
  have wg := @we_ge (sk B L p) L B
  have wl := @we_le (sk B L p) L B ql
  unfold yA
  rw [tM]
  split
  · rename_i z
    have z1 := z.1
    unfold openP
    by_cases d6 : d = 6
    · rw [if_pos d6, if_pos d6]
    · rw [if_neg d6, if_neg d6]
      exact yA_e (by omega) (by omega) (by omega)
  split
  · rename_i z
    have z1 := we_gt z.1.1
    unfold openP
    by_cases d6 : d = 6
    · rw [if_pos d6, if_pos d6]
    · rw [if_neg d6, if_neg d6]
      exact yA_e (by omega) wl (by omega)
  · cases hf : tF B L m d p O with
    | inl e => rfl
    | inr e =>
      obtain ⟨p1, O1⟩ := e
      obtain ⟨f1, f2⟩ := tF_i hd6 hp hf
      exact yG_e (by have := en_d S O1 d; omega) f2 (by omega)
theorem yG_s (hd6 : d ≤ 6) (hp : p ≤ L) : yG B L m p S O d =
    if SI B L (sk B L p) 93 ∧ 25 ∈ S then yE B L m (sk B L p + 1) (dw n25 S O).1.tail (dw n25 S O).2 (d - 1)
    else if HW B L (sk B L p) (wdL 78) then yA B L m (we B L (sk B L p)) (10 :: (dw e10 S O).1) (dw e10 S O).2 d
    else if HW B L (sk B L p) (wdL 79) then yA B L m (we B L (sk B L p)) (11 :: (dw e1011 S O).1) (dw e1011 S O).2 d
    else if 25 ∈ S then .inl (1, sk B L p) else .inr (sk B L p, O ++ S) := by
  have qg := @sk_ge p L B
  have ql := @sk_le p L B hp
  have wg := @we_ge (sk B L p) L B
  have wl := @we_le (sk B L p) L B ql
  unfold yG
  rw [tM]
  split
  · rename_i z
    have z1 := z.1.1
    show tM B L m (2 * (L - p)) false (sk B L p + 1) _ _ _ = _
    exact yG_e (by have := en_d (dw n25 S O).1.tail (dw n25 S O).2 (d - 1); omega) (by omega) (by omega)
  split
  · rename_i z
    have z1 := we_gt z.1.1
    exact yA_e hd6 wl (by omega)
  split
  · rename_i z
    have z1 := we_gt z.1.1
    exact yA_e hd6 wl (by omega)
  · rfl
theorem yG_sk (hd6 : d ≤ 6) (hp : p ≤ L) : yG B L m (sk B L p) S O d = yG B L m p S O d := by
  rw [yG_s hd6 (sk_le hp), yG_s hd6 hp, sk_sk]
theorem mem25 (h : o ≠ 25) : (25 ∈ o :: S) = (25 ∈ S) := by
  rw [List.mem_cons]
  exact propext ⟨fun z => z.resolve_left (fun y => h y.symm), Or.inr⟩
theorem pend10 (hd6 : d ≤ 6) (hp : p ≤ L) : yG B L m p (10 :: S) O d = yG B L m p S (O ++ [10]) d := by
  have d1 : dw n25 (10 :: S) O = dw n25 S (O ++ [10]) := by rw [dw, if_pos (by decide)]
  have d2 : dw e10 (10 :: S) O = dw e10 S (O ++ [10]) := by rw [dw, if_pos rfl]
  have d3 : dw e1011 (10 :: S) O = dw e1011 S (O ++ [10]) := by rw [dw, if_pos (Or.inl rfl)]
  rw [yG_s hd6 hp, yG_s hd6 hp, d1, d2, d3]
  simp only [mem25 (show 10 ≠ 25 by decide), List.append_assoc, List.cons_append, List.nil_append]
theorem pend11 (hd6 : d ≤ 6) (hp : p ≤ L) (nh : ¬ HW B L (sk B L p) (wdL 78)) : yG B L m p (11 :: S) O d = yG B L m p S (O ++ [11]) d := by
  have d1 : dw n25 (11 :: S) O = dw n25 S (O ++ [11]) := by rw [dw, if_pos (by decide)]
  have d3 : dw e1011 (11 :: S) O = dw e1011 S (O ++ [11]) := by rw [dw, if_pos (Or.inr rfl)]
  rw [yG_s hd6 hp, yG_s hd6 hp, d1, d3, if_neg nh, if_neg nh]
  simp only [mem25 (show 11 ≠ 25 by decide), List.append_assoc, List.cons_append, List.nil_append]
theorem en_n (h : hd S ≠ 12) : en S O d = (S, O, d) := by
  cases S with
  | nil => rfl
  | cons o S =>
    have h : o ≠ 12 := h
    rw [en, if_neg h]
theorem yE_n (h : hd S ≠ 12) : yE B L m p S O d = yG B L m p S O d := by
  unfold yE
  rw [en_n h]
theorem yE_sk (hd6 : d ≤ 6) (hp : p ≤ L) : yE B L m (sk B L p) S O d = yE B L m p S O d := by
  unfold yE
  exact yG_sk (by have := en_d S O d; omega) hp
variable (B L m) in
/-- a fact's answer -/
def simF (pr : PRes) (p : Nat) (S O : List Nat) (d : Nat) : Prop := match pr with
  | .inl e => yA B L m p S O d = .inl e
  | .inr (p', cs) => yA B L m p S O d = yE B L m p' S (O ++ cs) d
variable (B L) in
/-- the component has failed at a letter just behind a word; the twin sees it a little later -/
def wrd (e : Nat × Nat) (S : List Nat) (mr : PRes) : Prop := 25 ∉ S ∧ e.1 = 1 ∧ LEa B L e.2 ∧ ∃ O', mr = .inr (e.2, O')
variable (B L m) in
/-- tests' answer -/
def simB (pr : PRes) (p : Nat) (S O : List Nat) (d : Nat) : Prop := match pr with
  | .inl e => yA B L m p S O d = .inl e ∨ wrd B L e S (yA B L m p S O d)
  | .inr (p', cs) => yA B L m p S O d = yG B L m p' S (O ++ cs) d ∧ ¬ HW B L (sk B L p') (wdL 78)
variable (B L m) in
def simU (pr : PRes) (p : Nat) (S O : List Nat) (d : Nat) : Prop := simB B L m pr p S O d ∧ (match pr with
  | .inl _ => True
  | .inr (p', _) => ¬ HW B L (sk B L p') (wdL 79))
theorem thanM (hd6 : d ≤ 6) (hp : p ≤ L) (hn : 6 ≤ n + d) (n80 : ¬ HW B L (sk B L p) (wdL 80)) : match thanP B L m (psD B L m n) d p with
    | .inl e => tF B L m d p O = .inl e
    | .inr (p', cs) => tF B L m d p O = .inr (sk B L p', O ++ cs) := by
  have hok : d ≠ 6 → ∀ t p, p ≤ L → okP B L m p (psD B L m n t (d + 1) p) := fun h t p hp => psD_ok n t (d + 1) p (by omega) (by omega) hp
  have T := sumM_top (B := B) (L := L) (m := m) (O := O) (n := n) hd6 hp hn
  have ok := sum_ok (B := B) (m := m) (rs := psD B L m n) (d := d) hp hok
  unfold thanP tF
  rw [if_neg n80, T]
  cases hpr : sumP B L m (psD B L m n) d p with
  | inl e => rfl
  | inr e =>
    obtain ⟨p1, c1⟩ := e
    rw [hpr] at ok
    have o2 := ok.1.2.1
    have go : ∀ c, sk B L p1 < L → (match (pb (sumP B L m (psD B L m n) d (sk B L p1 + 1)) fun p2 c2 => (.inr (p2, c1 ++ c2 ++ [c]) : PRes)) with
        | .inl e => (pb (xA B L m (sk B L p1 + 1) [] (O ++ c1) d) fun p2 O2 => (.inr (p2, O2 ++ [c]) : PRes)) = .inl e
        | .inr (p', cs) => (pb (xA B L m (sk B L p1 + 1) [] (O ++ c1) d) fun p2 O2 => (.inr (p2, O2 ++ [c]) : PRes)) = .inr (sk B L p', O ++ cs)) := fun c hl => by
      have T2 := sumM_top (B := B) (L := L) (m := m) (O := O ++ c1) (n := n) hd6 (show sk B L p1 + 1 ≤ L from hl) hn
      rw [T2]
      cases hpr2 : sumP B L m (psD B L m n) d (sk B L p1 + 1) with
      | inl e => rfl
      | inr e =>
        obtain ⟨p2, c2⟩ := e
        show (.inr (sk B L p2, O ++ c1 ++ c2 ++ [c]) : PRes) = .inr (sk B L p2, O ++ (c1 ++ c2 ++ [c]))
        simp only [List.append_assoc]
    show (match (if SI B L (sk B L p1) 60 then pb (sumP B L m (psD B L m n) d (sk B L p1 + 1)) fun p2 c2 => (.inr (p2, c1 ++ c2 ++ [7]) : PRes) else if SI B L (sk B L p1) 62 then pb (sumP B L m (psD B L m n) d (sk B L p1 + 1)) fun p2 c2 => .inr (p2, c1 ++ c2 ++ [8]) else if SI B L (sk B L p1) 61 then pb (sumP B L m (psD B L m n) d (sk B L p1 + 1)) fun p2 c2 => .inr (p2, c1 ++ c2 ++ [9]) else .inl (1, sk B L p1)) with
      | .inl e => (if SI B L (sk B L (sk B L p1)) 60 then pb (xA B L m (sk B L (sk B L p1) + 1) [] (O ++ c1) d) fun p2 O2 => (.inr (p2, O2 ++ [7]) : PRes) else if SI B L (sk B L (sk B L p1)) 62 then pb (xA B L m (sk B L (sk B L p1) + 1) [] (O ++ c1) d) fun p2 O2 => .inr (p2, O2 ++ [8]) else if SI B L (sk B L (sk B L p1)) 61 then pb (xA B L m (sk B L (sk B L p1) + 1) [] (O ++ c1) d) fun p2 O2 => .inr (p2, O2 ++ [9]) else .inl (1, sk B L (sk B L p1))) = .inl e
      | .inr (p', cs) => (if SI B L (sk B L (sk B L p1)) 60 then pb (xA B L m (sk B L (sk B L p1) + 1) [] (O ++ c1) d) fun p2 O2 => (.inr (p2, O2 ++ [7]) : PRes) else if SI B L (sk B L (sk B L p1)) 62 then pb (xA B L m (sk B L (sk B L p1) + 1) [] (O ++ c1) d) fun p2 O2 => .inr (p2, O2 ++ [8]) else if SI B L (sk B L (sk B L p1)) 61 then pb (xA B L m (sk B L (sk B L p1) + 1) [] (O ++ c1) d) fun p2 O2 => .inr (p2, O2 ++ [9]) else .inl (1, sk B L (sk B L p1))) = .inr (sk B L p', O ++ cs))
    rw [sk_sk]
    by_cases y : SI B L (sk B L p1) 60
    · simp only [if_pos y]
      exact go 7 y.1
    simp only [if_neg y]
    by_cases y : SI B L (sk B L p1) 62
    · simp only [if_pos y]
      exact go 8 y.1
    simp only [if_neg y]
    by_cases y : SI B L (sk B L p1) 61
    · simp only [if_pos y]
      exact go 9 y.1
    simp only [if_neg y]
end PTM

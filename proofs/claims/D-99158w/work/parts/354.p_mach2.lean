/-! PARSER, the machine of sums is the pure parser -/
set_option maxRecDepth 100000
section PMB
variable {B : Nat → Nat} {L m p q p1 d k c o n n' j v r x y kk : Nat} {S S' O O' cs c1 : List Nat} {rs : Nat → Nat → Nat → PRes} {one : Nat → PRes}
theorem HW_w {w1 w2 : List Nat} (h : w1.length ≠ w2.length) (g : HW B L q w1) : ¬ HW B L q w2 := fun z => h (WQ_len g.2 z.2)
theorem nlW {w : List Nat} (h : ¬ LEa B L q) : ¬ HW B L q w := fun z => h z.1.1
theorem wdA_n (h : ¬ LEa B L (sk B L p)) : wdA B L m p = none := by
  unfold wdA
  rw [if_neg (fun z => h z.1)]
theorem atomM (hp : p ≤ L) (h0 : d ≠ 6 → ∀ p S O, p ≤ L → (S = [] ∨ isBr (hd S)) → simT B L m (rs 0 (d + 1) p) p S O (d + 1)) (h1 : d ≠ 6 → ∀ p S O, p ≤ L → simA B L m (rs 1 (d + 1) p) p S O (d + 1)) (hok : d ≠ 6 → ∀ t p, p ≤ L → okP B L m p (rs t (d + 1) p)) : simA B L m (atomP B L m rs d p) p S O d := by
  have ql := @sk_le p L B hp
  unfold atomP
  by_cases z : SI B L (sk B L p) 40
  · rw [if_pos z]
    have I := withinM (k := 0) (S := S) (O := O) (by omega) hp h0 hok
    cases hpr : withinP B L rs 0 d p with
    | inl e =>
      rw [hpr] at I
      show xA B L m p S O d = .inl e
      rw [xA_s hp, if_pos z]
      rw [if_pos z] at I
      exact I
    | inr e =>
      obtain ⟨p1, c1⟩ := e
      rw [hpr] at I
      show xA B L m p S O d = _
      rw [xA_s hp, if_pos z]
      rw [if_pos z] at I
      exact I
  rw [if_neg z]
  by_cases z2 : DIa B L (sk B L p)
  · rw [if_pos z2]
    have nl : ¬ LEa B L (sk B L p) := fun y => by
      have a1 := y.2
      have a2 := z2.2
      omega
    have st : xA B L m p S O d = (match nu B L 0 9999 p with | .inl e => .inl e | .inr (r, v) => xE B L m r S (O ++ [1000 + v]) d) := by
      rw [xA_s hp, if_neg z, if_neg (nlW nl), if_neg (nlW nl), if_neg (fun y => nlW nl y.2), wdA_n nl]
      rfl
    cases hn : nu B L 0 9999 p with
    | inl e =>
      rw [hn] at st
      exact st
    | inr e =>
      obtain ⟨r, v⟩ := e
      rw [hn] at st
      exact st
  rw [if_neg z2]
  have nuE : nu B L 0 9999 p = .inl (1, sk B L p) := by
    unfold nu
    rw [if_neg (fun y => z2 y.1)]
  by_cases z3 : LEa B L (sk B L p) ∧ ¬ PT B (sk B L p)
  rotate_left
  · rw [if_neg z3]
    show xA B L m p S O d = .inl (1, sk B L p)
    have nh : ∀ w, ¬ HW B L (sk B L p) w := fun w y => z3 y.1
    have wn' : wdA B L m p = none := by
      unfold wdA
      rw [if_neg z3]
    rw [xA_s hp, if_neg z, if_neg (nh _), if_neg (nh _), if_neg (fun y => nh _ y.2), wn', nuE]
  rw [if_pos z3]
  have wl := @we_le (sk B L p) L B ql
  cases hfd : fd B (sk B L p) (we B L (sk B L p)) askL with
  | some j =>
    have hmm := fd_mm hfd
    have h85 := fd_85 hfd
    have n81 : ¬ HW B L (sk B L p) (wdL 81) := fun y => hmm.1 y.2
    have n82 : ¬ HW B L (sk B L p) (wdL 82) := fun y => hmm.2 y.2
    show simA B L m (if alw m j then _ else _) p S O d
    by_cases ya : alw m j
    · rw [if_pos ya]
      have n85 : ¬ (m = 3 ∧ HW B L (sk B L p) (wdL 85)) := fun y => by
        have j2 := h85.mp y.2.2
        have m3 := y.1
        subst j2 m3
        omega
      have wn' : wdA B L m p = some j := by
        unfold wdA
        rw [if_pos z3, hfd]
        show (if alw m j then some j else none) = some j
        rw [if_pos ya]
      show xA B L m p S O d = xE B L m (we B L (sk B L p)) S (O ++ [40 + j]) d
      rw [xA_s hp, if_neg z, if_neg n81, if_neg n82, if_neg n85, wn']
    · rw [if_neg ya]
      by_cases y3 : m = 3 ∧ j = 2
      · rw [if_pos y3]
        have h85' : HW B L (sk B L p) (wdL 85) := ⟨z3, h85.mpr y3.2⟩
        have st : xA B L m p S O d = openP d (sk B L p) (xA B L m (we B L (sk B L p)) (60 :: S) O (d + 1)) := by
          rw [xA_s hp, if_neg z, if_neg n81, if_neg n82, if_pos ⟨y3.1, h85'⟩]
        unfold openP at st ⊢
        by_cases d6 : d = 6
        · rw [if_pos d6] at st ⊢
          exact st
        rw [if_neg d6] at st ⊢
        have I := h1 d6 (we B L (sk B L p)) (60 :: S) O wl
        cases hpr : rs 1 (d + 1) (we B L (sk B L p)) with
        | inl e =>
          rw [hpr] at I
          exact st.trans I
        | inr e =>
          obtain ⟨p1, c1⟩ := e
          rw [hpr] at I
          show xA B L m p S O d = xE B L m p1 S (O ++ (c1 ++ [60])) d
          rw [st, show xA B L m (we B L (sk B L p)) (60 :: S) O (d + 1) = xE B L m p1 (60 :: S) (O ++ c1) (d + 1) from I]
          unfold xE
          rw [ep, if_pos (by omega), Nat.add_sub_cancel, List.append_assoc]
      · rw [if_neg y3]
        have n85 : ¬ (m = 3 ∧ HW B L (sk B L p) (wdL 85)) := fun y => y3 ⟨y.1, h85.mp y.2.2⟩
        have wn' : wdA B L m p = none := by
          unfold wdA
          rw [if_pos z3, hfd]
          show (if alw m j then some j else none) = none
          rw [if_neg ya]
        show xA B L m p S O d = .inl (1, sk B L p)
        rw [xA_s hp, if_neg z, if_neg n81, if_neg n82, if_neg n85, wn', nuE]
  | none =>
    have n85 : ¬ (m = 3 ∧ HW B L (sk B L p) (wdL 85)) := fun y => fd_n hfd 2 (by decide) y.2.2
    have wn' : wdA B L m p = none := by
      unfold wdA
      rw [if_pos z3, hfd]
    show simA B L m (if WQ B (sk B L p) (we B L (sk B L p)) (wdL 81) then _ else _) p S O d
    have go : ∀ k, k ≤ 2 → xA B L m p S O d = (if SI B L (sk B L (we B L (sk B L p))) 40 then openP d (sk B L (we B L (sk B L p))) (xA B L m (sk B L (we B L (sk B L p)) + 1) ((20 + k) :: S) O (d + 1)) else .inl (1, sk B L (we B L (sk B L p)))) → simA B L m (withinP B L rs k d (we B L (sk B L p))) p S O d := fun k hk st => by
      have I := withinM (k := k) (S := S) (O := O) hk wl h0 hok
      cases hpr : withinP B L rs k d (we B L (sk B L p)) with
      | inl e =>
        rw [hpr] at I
        exact st.trans I
      | inr e =>
        obtain ⟨p1, c1⟩ := e
        rw [hpr] at I
        exact st.trans I
    by_cases y5 : WQ B (sk B L p) (we B L (sk B L p)) (wdL 81)
    · rw [if_pos y5]
      refine go 1 (by omega) ?_
      rw [xA_s hp, if_neg z, if_pos (⟨z3, y5⟩ : HW B L (sk B L p) (wdL 81))]
    · rw [if_neg y5]
      have n81 : ¬ HW B L (sk B L p) (wdL 81) := fun y => y5 y.2
      by_cases y6 : WQ B (sk B L p) (we B L (sk B L p)) (wdL 82)
      · rw [if_pos y6]
        refine go 2 (by omega) ?_
        rw [xA_s hp, if_neg z, if_neg n81, if_pos (⟨z3, y6⟩ : HW B L (sk B L p) (wdL 82))]
      · rw [if_neg y6]
        have n82 : ¬ HW B L (sk B L p) (wdL 82) := fun y => y6 y.2
        show xA B L m p S O d = .inl (1, sk B L p)
        rw [xA_s hp, if_neg z, if_neg n81, if_neg n82, if_neg n85, wn', nuE]
/-- no sign of a product, a sum -/
abbrev nP (B : Nat → Nat) (L p : Nat) : Prop := ¬ SI B L (sk B L p) 42 ∧ ¬ SI B L (sk B L p) 47
abbrev nS (B : Nat → Nat) (L p : Nat) : Prop := ¬ SI B L (sk B L p) 43 ∧ ¬ SI B L (sk B L p) 45
theorem SI_u {c c' : Nat} (h : SI B L q c) (hc : c ≠ c') : ¬ SI B L q c' := fun z => hc (h.2.symm.trans z.2)
theorem chainM3 (hS : hd S < 60 ∧ ¬ q34 (hd S)) (ho : ∀ p S O, p ≤ L → simA B L m (one p) p S O d) (hok : ∀ p, p ≤ L → okP B L m p (one p)) : ∀ (n p : Nat) (cs : List Nat), p ≤ L → L - p ≤ n →
    match chainP B L one 42 47 3 n p cs with
    | .inl e => xG B L m p S (O ++ cs) d = .inl e
    | .inr (p', cs') => xG B L m p S (O ++ cs) d = xG B L m p' S (O ++ cs') d ∧ nP B L p' := by
  have nd : S = [] ∨ ¬ q34 (hd S) := Or.inr hS.2
  intro n
  induction n with
  | zero =>
    intro p cs hp hn
    have e : sk B L p = p := sk_n (by omega)
    exact ⟨rfl, by rw [e]; exact fun z => by have := z.1; omega, by rw [e]; exact fun z => by have := z.1; omega⟩
  | succ n ih =>
    intro p cs hp hn
    have ql := @sk_le p L B hp
    have qg := @sk_ge p L B
    rw [chainP]
    have step : ∀ o, q34 o → sk B L p < L → xG B L m p S (O ++ cs) d = xA B L m (sk B L p + 1) (o :: S) (O ++ cs) d → (match (pb (one (sk B L p + 1)) fun p1 c1 => chainP B L one 42 47 3 n p1 (cs ++ c1 ++ [o])) with
        | .inl e => xG B L m p S (O ++ cs) d = .inl e
        | .inr (p', cs') => xG B L m p S (O ++ cs) d = xG B L m p' S (O ++ cs') d ∧ nP B L p') := by
      intro o hq hl e1
      have I := ho (sk B L p + 1) (o :: S) (O ++ cs) hl
      have ok := hok (sk B L p + 1) hl
      rw [e1]
      cases hpr : one (sk B L p + 1) with
      | inl e =>
        rw [hpr] at I
        exact I
      | inr e =>
        obtain ⟨p1, c1⟩ := e
        rw [hpr] at I ok
        obtain ⟨⟨o1, o2, -⟩, -⟩ := ok
        have e2 : xA B L m (sk B L p + 1) (o :: S) (O ++ cs) d = xG B L m p1 S (O ++ (cs ++ c1 ++ [o])) d := by
          have I' : xA B L m (sk B L p + 1) (o :: S) (O ++ cs) d = xE B L m p1 (o :: S) (O ++ cs ++ c1) d := I
          rw [I', xE_n (by show o < 60; have := hq; omega), pend3 hq o2]
          simp only [List.append_assoc]
        have J := ih p1 (cs ++ c1 ++ [o]) o2 (by omega)
        show (match chainP B L one 42 47 3 n p1 (cs ++ c1 ++ [o]) with | .inl e => _ | .inr (p', cs') => _)
        rw [e2]
        exact J
    by_cases z : SI B L (sk B L p) 42
    · rw [if_pos z]
      refine step 3 (Or.inl rfl) z.1 ?_
      rw [xG_s hp, if_neg (fun y => SI_u z (by omega) y.1), if_pos z, dw_n nd]
    rw [if_neg z]
    by_cases z2 : SI B L (sk B L p) 47
    · rw [if_pos z2]
      refine step 4 (Or.inr rfl) z2.1 ?_
      rw [xG_s hp, if_neg (fun y => SI_u z2 (by omega) y.1), if_neg z, if_pos z2, dw_n nd]
    rw [if_neg z2]
    exact ⟨(xG_sk hp).symm, by rw [sk_sk]; exact z, by rw [sk_sk]; exact z2⟩
theorem prodM (hS : hd S < 60 ∧ ¬ q34 (hd S)) (hp : p ≤ L) (ho : ∀ p S O, p ≤ L → simA B L m (atomP B L m rs d p) p S O d) (hok : ∀ p, p ≤ L → okP B L m p (atomP B L m rs d p)) : simS B L m (prodP B L m rs d p) p S O d := by
  have I := ho p S O hp
  have ok := hok p hp
  unfold prodP
  cases hpr : atomP B L m rs d p with
  | inl e =>
    rw [hpr] at I
    exact I
  | inr e =>
    obtain ⟨p1, c1⟩ := e
    rw [hpr] at I ok
    obtain ⟨⟨o1, o2, -⟩, -⟩ := ok
    have I' : xA B L m p S O d = xG B L m p1 S (O ++ c1) d := by
      rw [show xA B L m p S O d = xE B L m p1 S (O ++ c1) d from I, xE_n hS.1]
    have J := chainM3 (O := O) hS ho hok (L - p1) p1 c1 o2 (Nat.le_refl _)
    show simS B L m (chainP B L (atomP B L m rs d) 42 47 3 (L - p1) p1 c1) p S O d
    cases hpr2 : chainP B L (atomP B L m rs d) 42 47 3 (L - p1) p1 c1 with
    | inl e =>
      rw [hpr2] at J
      exact I'.trans J
    | inr e =>
      obtain ⟨p2, c2⟩ := e
      rw [hpr2] at J
      exact ⟨I'.trans J.1, J.2⟩
theorem chainM1 (hS : S = [] ∨ isBr (hd S)) (ho : ∀ p S O, p ≤ L → hd S < 60 ∧ ¬ q34 (hd S) → simS B L m (one p) p S O d) (hok : ∀ p, p ≤ L → okP B L m p (one p)) : ∀ (n p : Nat) (cs : List Nat), p ≤ L → L - p ≤ n → nP B L p →
    match chainP B L one 43 45 1 n p cs with
    | .inl e => xG B L m p S (O ++ cs) d = .inl e
    | .inr (p', cs') => xG B L m p S (O ++ cs) d = xG B L m p' S (O ++ cs') d ∧ nP B L p' ∧ nS B L p' := by
  have nd : S = [] ∨ ¬ q14 (hd S) := hS.imp id (fun h z => by have := h.1; omega)
  intro n
  induction n with
  | zero =>
    intro p cs hp hn hP
    have e : sk B L p = p := sk_n (by omega)
    exact ⟨rfl, hP, by rw [e]; exact fun z => by have := z.1; omega, by rw [e]; exact fun z => by have := z.1; omega⟩
  | succ n ih =>
    intro p cs hp hn hP
    have ql := @sk_le p L B hp
    have qg := @sk_ge p L B
    rw [chainP]
    have step : ∀ o, o = 1 ∨ o = 2 → sk B L p < L → xG B L m p S (O ++ cs) d = xA B L m (sk B L p + 1) (o :: S) (O ++ cs) d → (match (pb (one (sk B L p + 1)) fun p1 c1 => chainP B L one 43 45 1 n p1 (cs ++ c1 ++ [o])) with
        | .inl e => xG B L m p S (O ++ cs) d = .inl e
        | .inr (p', cs') => xG B L m p S (O ++ cs) d = xG B L m p' S (O ++ cs') d ∧ nP B L p' ∧ nS B L p') := by
      intro o hq hl e1
      have I := ho (sk B L p + 1) (o :: S) (O ++ cs) hl ⟨by show o < 60; omega, by show ¬ q34 o; unfold q34; omega⟩
      have ok := hok (sk B L p + 1) hl
      rw [e1]
      cases hpr : one (sk B L p + 1) with
      | inl e =>
        rw [hpr] at I
        exact I
      | inr e =>
        obtain ⟨p1, c1⟩ := e
        rw [hpr] at I ok
        obtain ⟨⟨o1, o2, -⟩, -⟩ := ok
        obtain ⟨I1, I2⟩ := I
        have e2 : xA B L m (sk B L p + 1) (o :: S) (O ++ cs) d = xG B L m p1 S (O ++ (cs ++ c1 ++ [o])) d := by
          rw [I1, pend1 (by unfold q14; omega) o2 I2.1 I2.2]
          simp only [List.append_assoc]
        have J := ih p1 (cs ++ c1 ++ [o]) o2 (by omega) I2
        show (match chainP B L one 43 45 1 n p1 (cs ++ c1 ++ [o]) with | .inl e => _ | .inr (p', cs') => _)
        rw [e2]
        exact J
    by_cases z : SI B L (sk B L p) 43
    · rw [if_pos z]
      refine step 1 (Or.inl rfl) z.1 ?_
      rw [xG_s hp, if_neg (fun y => SI_u z (by omega) y.1), if_neg hP.1, if_neg hP.2, if_pos z, dw_n nd]
    rw [if_neg z]
    by_cases z2 : SI B L (sk B L p) 45
    · rw [if_pos z2]
      refine step 2 (Or.inr rfl) z2.1 ?_
      rw [xG_s hp, if_neg (fun y => SI_u z2 (by omega) y.1), if_neg hP.1, if_neg hP.2, if_neg z, if_pos z2, dw_n nd]
    rw [if_neg z2]
    exact ⟨(xG_sk hp).symm, ⟨by rw [sk_sk]; exact hP.1, by rw [sk_sk]; exact hP.2⟩, by rw [sk_sk]; exact z, by rw [sk_sk]; exact z2⟩
theorem sumM (hS : S = [] ∨ isBr (hd S)) (hp : p ≤ L) (ho : ∀ p S O, p ≤ L → hd S < 60 ∧ ¬ q34 (hd S) → simS B L m (prodP B L m rs d p) p S O d) (hok : ∀ p, p ≤ L → okP B L m p (prodP B L m rs d p)) : simT B L m (sumP B L m rs d p) p S O d := by
  have hS2 : hd S < 60 ∧ ¬ q34 (hd S) := by
    rcases hS with h | h
    · subst h
      exact ⟨by decide, by decide⟩
    · have h1 := h.1
      have h2 := h.2
      exact ⟨by omega, by unfold q34; omega⟩
  have I := ho p S O hp hS2
  have ok := hok p hp
  unfold sumP
  cases hpr : prodP B L m rs d p with
  | inl e =>
    rw [hpr] at I
    exact ⟨I, trivial⟩
  | inr e =>
    obtain ⟨p1, c1⟩ := e
    rw [hpr] at I ok
    obtain ⟨⟨o1, o2, -⟩, -⟩ := ok
    obtain ⟨I1, I2⟩ := I
    have J := chainM1 (O := O) hS ho hok (L - p1) p1 c1 o2 (Nat.le_refl _) I2
    show simT B L m (chainP B L (prodP B L m rs d) 43 45 1 (L - p1) p1 c1) p S O d
    cases hpr2 : chainP B L (prodP B L m rs d) 43 45 1 (L - p1) p1 c1 with
    | inl e =>
      rw [hpr2] at J
      exact ⟨I1.trans J, trivial⟩
    | inr e =>
      obtain ⟨p2, c2⟩ := e
      rw [hpr2] at J
      exact ⟨⟨I1.trans J.1, J.2.1⟩, J.2.2⟩
/-- all levels: sums and parts -/
theorem psM : ∀ n d, 6 ≤ n + d → d ≤ 6 → d ≠ 6 → (∀ p S O, p ≤ L → (S = [] ∨ isBr (hd S)) → simT B L m (psD B L m n 0 (d + 1) p) p S O (d + 1)) ∧ (∀ p S O, p ≤ L → simA B L m (psD B L m n 1 (d + 1) p) p S O (d + 1)) := by
  intro n
  induction n with
  | zero => intro d h1 h2 h3; omega
  | succ n ih =>
    intro d h1 h2 h3
    have hok : d + 1 ≠ 6 → ∀ t p, p ≤ L → okP B L m p (psD B L m n t (d + 1 + 1) p) := fun h t p hp => psD_ok n t (d + 1 + 1) p (by omega) (by omega) hp
    have at1 : ∀ p S O, p ≤ L → simA B L m (atomP B L m (psD B L m n) (d + 1) p) p S O (d + 1) := fun p S O hp => atomM hp (fun h => (ih (d + 1) (by omega) (by omega) h).1) (fun h => (ih (d + 1) (by omega) (by omega) h).2) hok
    have pr1 : ∀ p S O, p ≤ L → hd S < 60 ∧ ¬ q34 (hd S) → simS B L m (prodP B L m (psD B L m n) (d + 1) p) p S O (d + 1) := fun p S O hp hS => prodM hS hp at1 (fun p hp => atom_ok hp hok)
    exact ⟨fun p S O hp hS => sumM hS hp pr1 (fun p hp => prod_ok hp hok), at1⟩
/-- a sum at depth d, over any level that is great enough -/
theorem sumM64 (hd6 : d ≤ 6) (hp : p ≤ L) (hS : S = [] ∨ isBr (hd S)) (hn : 6 ≤ n + d) : simT B L m (sumP B L m (psD B L m n) d p) p S O d := by
  have hok : d ≠ 6 → ∀ t p, p ≤ L → okP B L m p (psD B L m n t (d + 1) p) := fun h t p hp => psD_ok n t (d + 1) p (by omega) (by omega) hp
  have at1 : ∀ p S O, p ≤ L → simA B L m (atomP B L m (psD B L m n) d p) p S O d := fun p S O hp => atomM hp (fun h => (psM n d hn hd6 h).1) (fun h => (psM n d hn hd6 h).2) hok
  have pr1 : ∀ p S O, p ≤ L → hd S < 60 ∧ ¬ q34 (hd S) → simS B L m (prodP B L m (psD B L m n) d p) p S O d := fun p S O hp hS => prodM hS hp at1 (fun p hp => atom_ok hp hok)
  exact sumM hS hp pr1 (fun p hp => prod_ok hp hok)
/-- the whole sum: where nothing else waits -/
theorem sumM_top (hd6 : d ≤ 6) (hp : p ≤ L) (hn : 6 ≤ n + d) : xA B L m p [] O d = (match sumP B L m (psD B L m n) d p with
    | .inl e => .inl e
    | .inr (p', cs) => .inr (sk B L p', O ++ cs)) := by
  have hok : d ≠ 6 → ∀ t p, p ≤ L → okP B L m p (psD B L m n t (d + 1) p) := fun h t p hp => psD_ok n t (d + 1) p (by omega) (by omega) hp
  have I := sumM64 (B := B) (L := L) (m := m) (O := O) hd6 hp (Or.inl rfl) hn
  have ok := sum_ok (B := B) (m := m) (rs := psD B L m n) (d := d) hp hok
  cases hpr : sumP B L m (psD B L m n) d p with
  | inl e =>
    rw [hpr] at I
    exact I.1
  | inr e =>
    obtain ⟨p1, c1⟩ := e
    rw [hpr] at I ok
    obtain ⟨⟨i1, i2, i3⟩, i4, i5⟩ := I
    rw [i1, xG_s ok.1.2.1, if_neg (fun y => by rcases y.2 with h | h | h <;> cases h), if_neg i2, if_neg i3, if_neg i4, if_neg i5, if_neg (fun y => by rcases y with h | h <;> cases h), if_pos (show brS [] = 0 from rfl), List.append_nil]
end PMB

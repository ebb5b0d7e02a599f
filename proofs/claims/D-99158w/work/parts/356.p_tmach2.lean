/-! PARSER, the machine of tests is the pure parser -/
set_option maxRecDepth 100000
section PTN
variable {B : Nat → Nat} {L m p q p1 d k c o n n' j v r x y kk : Nat} {S S' O O' cs c1 : List Nat} {rs : Nat → Nat → Nat → PRes} {one : Nat → PRes}
theorem SI_nl' (h : LEa B L q) (hc : c < 97 ∨ 122 < c) : ¬ SI B L q c := fun z => SI_nl z hc h
theorem SI_nw {w : List Nat} (h : SI B L q c) (hc : c < 97 ∨ 122 < c) : ¬ HW B L q w := fun z => SI_nl h hc z.1.1
theorem factM (hd6 : d ≤ 6) (hp : p ≤ L) (hn : 6 ≤ n + d) (h2 : d ≠ 6 → ∀ p S O, p ≤ L → (S = [] ∨ hd S = 25) → simU B L m (psD B L m n 2 (d + 1) p) p S O (d + 1)) (h3 : d ≠ 6 → ∀ p S O, p ≤ L → simF B L m (psD B L m n 3 (d + 1) p) p S O (d + 1)) : simF B L m (factP B L m (psD B L m n) d p) p S O d := by
  have hok : d ≠ 6 → ∀ t p, p ≤ L → okP B L m p (psD B L m n t (d + 1) p) := fun h t p hp => psD_ok n t (d + 1) p (by omega) (by omega) hp
  have ql := @sk_le p L B hp
  have wl := @we_le (sk B L p) L B ql
  unfold factP
  by_cases z : SI B L (sk B L p) 91
  · rw [if_pos z]
    have z1 := z.1
    have st : yA B L m p S O d = openP d (sk B L p) (yA B L m (sk B L p + 1) (25 :: S) O (d + 1)) := by
      rw [yA_s hd6 hp, if_pos z]
    unfold openP at st ⊢
    by_cases d6 : d = 6
    · rw [if_pos d6] at st ⊢
      exact st
    rw [if_neg d6] at st ⊢
    have I := h2 d6 (sk B L p + 1) (25 :: S) O z1 (Or.inr rfl)
    have ok := hok d6 2 (sk B L p + 1) z1
    cases hpr : psD B L m n 2 (d + 1) (sk B L p + 1) with
    | inl e =>
      rw [hpr] at I
      rcases I.1 with h | h
      · exact st.trans h
      · exact absurd (List.mem_cons_self) h.1
    | inr e =>
      obtain ⟨p1, c1⟩ := e
      rw [hpr] at I ok
      obtain ⟨⟨i1, i2⟩, i3⟩ := I
      have o2 := ok.1.2.1
      have st2 : yA B L m p S O d = if SI B L (sk B L p1) 93 then yE B L m (sk B L p1 + 1) S (O ++ c1) d else .inl (1, sk B L p1) := by
        have dd : dw n25 (25 :: S) (O ++ c1) = (25 :: S, O ++ c1) := dw_n (Or.inr (fun q => q rfl))
        rw [st, i1, yG_s (by omega) o2, if_neg i2, if_neg i3, dd, if_pos (List.mem_cons_self)]
        by_cases y : SI B L (sk B L p1) 93
        · rw [if_pos ⟨y, List.mem_cons_self⟩, if_pos y, Nat.add_sub_cancel]
          rfl
        · rw [if_neg (fun q => y q.1), if_neg y]
      show simF B L m (mustP B L p1 93 fun p2 => .inr (p2, c1)) p S O d
      by_cases y : SI B L (sk B L p1) 93
      · rw [mustP_p y]
        rw [if_pos y] at st2
        exact st2
      · rw [mustP_n y]
        rw [if_neg y] at st2
        exact st2
  rw [if_neg z]
  -- the facts that are no brackets and say no not
  have than : ¬ HW B L (sk B L p) (wdL 77) → ¬ HW B L (sk B L p) (wdL 80) → simF B L m (thanP B L m (psD B L m n) d p) p S O d := fun n77 n80 => by
    have T := thanM (B := B) (L := L) (m := m) (O := O) hd6 hp hn n80
    have ok := than_ok (B := B) (m := m) (rs := psD B L m n) (d := d) hp hok
    cases hpr : thanP B L m (psD B L m n) d p with
    | inl e =>
      rw [hpr] at T
      have T' : tF B L m d p O = .inl e := T
      show yA B L m p S O d = .inl e
      rw [yA_s hd6 hp, if_neg z, if_neg n77, T']
      rfl
    | inr e =>
      obtain ⟨p1, c1⟩ := e
      rw [hpr] at T ok
      have T' : tF B L m d p O = .inr (sk B L p1, O ++ c1) := T
      show yA B L m p S O d = yE B L m p1 S (O ++ c1) d
      rw [yA_s hd6 hp, if_neg z, if_neg n77, T', ← yE_sk hd6 ok.1.2.1]
      rfl
  by_cases z1 : LEa B L (sk B L p) ∧ PT B (sk B L p)
  · rw [if_pos z1]
    have nh : ∀ w, ¬ HW B L (sk B L p) w := fun w y => y.1.2 z1.2
    have T := than (nh _) (nh _)
    have e1 : thanP B L m (psD B L m n) d p = .inl (1, sk B L p) := by
      unfold thanP sumP prodP atomP
      rw [if_neg (SI_nl' z1.1 (by omega)), if_neg (fun y => by have a1 := y.2; have a2 := z1.1.2; omega), if_neg (fun y => y.2 z1.2)]
      rfl
    rw [e1] at T
    exact T
  rw [if_neg z1]
  by_cases z2 : HW B L (sk B L p) (wdL 77)
  · rw [if_pos z2]
    have st : yA B L m p S O d = openP d (sk B L p) (yA B L m (we B L (sk B L p)) (12 :: S) O (d + 1)) := by
      rw [yA_s hd6 hp, if_neg z, if_pos z2]
    unfold openP at st ⊢
    by_cases d6 : d = 6
    · rw [if_pos d6] at st ⊢
      exact st
    rw [if_neg d6] at st ⊢
    have I := h3 d6 (we B L (sk B L p)) (12 :: S) O wl
    cases hpr : psD B L m n 3 (d + 1) (we B L (sk B L p)) with
    | inl e =>
      rw [hpr] at I
      exact st.trans I
    | inr e =>
      obtain ⟨p1, c1⟩ := e
      rw [hpr] at I
      show yA B L m p S O d = yE B L m p1 S (O ++ (c1 ++ [12])) d
      rw [st, show yA B L m (we B L (sk B L p)) (12 :: S) O (d + 1) = yE B L m p1 (12 :: S) (O ++ c1) (d + 1) from I]
      unfold yE
      rw [en, if_pos rfl, Nat.add_sub_cancel, List.append_assoc]
  rw [if_neg z2]
  by_cases z3 : HW B L (sk B L p) (wdL 80)
  · rw [if_pos z3]
    show yA B L m p S O d = yE B L m (we B L (sk B L p)) S (O ++ [13]) d
    have T' : tF B L m d p O = .inr (we B L (sk B L p), O ++ [13]) := by
      unfold tF
      rw [if_pos z3]
    rw [yA_s hd6 hp, if_neg z, if_neg z2, T']
    rfl
  rw [if_neg z3]
  exact than z2 z3
/-- at a letter just behind a word or a number -/
theorem yG_pt (hd6 : d ≤ 6) (hp : p ≤ L) (le : LEa B L (sk B L p)) (pt : PT B (sk B L p)) : yG B L m p S O d = .inl (1, sk B L p) ∨ wrd B L (1, sk B L p) S (yG B L m p S O d) := by
  have nh : ∀ w, ¬ HW B L (sk B L p) w := fun w y => y.1.2 pt
  rw [yG_s hd6 hp, if_neg (fun y => SI_nl y.1 (by omega) le), if_neg (nh _), if_neg (nh _)]
  by_cases h : 25 ∈ S
  · rw [if_pos h]
    exact Or.inl rfl
  · rw [if_neg h]
    exact Or.inr ⟨h, rfl, le, _, rfl⟩
theorem joinM10 (hd6 : d ≤ 6) (hS : hd S ≠ 12 ∧ hd S ≠ 10) (ho : ∀ p S O, p ≤ L → simF B L m (one p) p S O d) (hok : ∀ p, p ≤ L → okP B L m p (one p)) : ∀ (n p : Nat) (cs : List Nat), p ≤ L → L - p < n →
    match joinP B L one 78 10 n p cs with
    | .inl e => yG B L m p S (O ++ cs) d = .inl e ∨ wrd B L e S (yG B L m p S (O ++ cs) d)
    | .inr (p', cs') => yG B L m p S (O ++ cs) d = yG B L m p' S (O ++ cs') d ∧ ¬ HW B L (sk B L p') (wdL 78) := by
  intro n
  induction n with
  | zero => intro p cs hp hn; omega
  | succ n ih =>
    intro p cs hp hn
    have ql := @sk_le p L B hp
    have qg := @sk_ge p L B
    have wl := @we_le (sk B L p) L B ql
    rw [joinP]
    by_cases z : LEa B L (sk B L p) ∧ PT B (sk B L p)
    · rw [if_pos z]
      exact yG_pt hd6 hp z.1 z.2
    rw [if_neg z]
    by_cases z2 : HW B L (sk B L p) (wdL 78)
    · rw [if_pos z2]
      have wg := we_gt z2.1.1
      have e1 : yG B L m p S (O ++ cs) d = yA B L m (we B L (sk B L p)) (10 :: S) (O ++ cs) d := by
        rw [yG_s hd6 hp, if_neg (fun y => SI_nw y.1 (by omega) z2), if_pos z2, dw_n (Or.inr hS.2)]
      have I := ho (we B L (sk B L p)) (10 :: S) (O ++ cs) wl
      have ok := hok (we B L (sk B L p)) wl
      rw [e1]
      cases hpr : one (we B L (sk B L p)) with
      | inl e =>
        rw [hpr] at I
        exact Or.inl I
      | inr e =>
        obtain ⟨p1, c1⟩ := e
        rw [hpr] at I ok
        obtain ⟨⟨o1, o2, -⟩, -⟩ := ok
        have e2 : yA B L m (we B L (sk B L p)) (10 :: S) (O ++ cs) d = yG B L m p1 S (O ++ (cs ++ c1 ++ [10])) d := by
          rw [show yA B L m (we B L (sk B L p)) (10 :: S) (O ++ cs) d = yE B L m p1 (10 :: S) (O ++ cs ++ c1) d from I, yE_n (S := 10 :: S) (show (10 : Nat) ≠ 12 by decide), pend10 hd6 o2]
          simp only [List.append_assoc]
        have J := ih p1 (cs ++ c1 ++ [10]) o2 (by omega)
        show (match joinP B L one 78 10 n p1 (cs ++ c1 ++ [10]) with | .inl e => _ | .inr (p', cs') => _)
        rw [e2]
        exact J
    rw [if_neg z2]
    by_cases z3 : LEa B L (sk B L p)
    · rw [if_pos z3]
      exact ⟨rfl, z2⟩
    · rw [if_neg z3]
      exact ⟨(yG_sk hd6 hp).symm, by rw [sk_sk]; exact z2⟩
theorem bothM (hd6 : d ≤ 6) (hS : hd S ≠ 12 ∧ hd S ≠ 10) (hp : p ≤ L) (ho : ∀ p S O, p ≤ L → simF B L m (factP B L m rs d p) p S O d) (hok : ∀ p, p ≤ L → okP B L m p (factP B L m rs d p)) : simB B L m (bothP B L m rs d p) p S O d := by
  have I := ho p S O hp
  have ok := hok p hp
  unfold bothP
  cases hpr : factP B L m rs d p with
  | inl e =>
    rw [hpr] at I
    exact Or.inl I
  | inr e =>
    obtain ⟨p1, c1⟩ := e
    rw [hpr] at I ok
    obtain ⟨⟨o1, o2, -⟩, -⟩ := ok
    have I' : yA B L m p S O d = yG B L m p1 S (O ++ c1) d := by
      rw [show yA B L m p S O d = yE B L m p1 S (O ++ c1) d from I, yE_n hS.1]
    have J := joinM10 (O := O) hd6 hS ho hok (L - p1 + 1) p1 c1 o2 (by omega)
    show simB B L m (joinP B L (factP B L m rs d) 78 10 (L - p1 + 1) p1 c1) p S O d
    unfold simB
    rw [I']
    exact J
theorem joinM11 (hd6 : d ≤ 6) (hS : S = [] ∨ hd S = 25) (ho : ∀ p S O, p ≤ L → hd S ≠ 12 ∧ hd S ≠ 10 → simB B L m (one p) p S O d) (hok : ∀ p, p ≤ L → okP B L m p (one p)) : ∀ (n p : Nat) (cs : List Nat), p ≤ L → L - p < n → ¬ HW B L (sk B L p) (wdL 78) →
    match joinP B L one 79 11 n p cs with
    | .inl e => yG B L m p S (O ++ cs) d = .inl e ∨ wrd B L e S (yG B L m p S (O ++ cs) d)
    | .inr (p', cs') => yG B L m p S (O ++ cs) d = yG B L m p' S (O ++ cs') d ∧ ¬ HW B L (sk B L p') (wdL 78) ∧ ¬ HW B L (sk B L p') (wdL 79) := by
  have nd : S = [] ∨ ¬ e1011 (hd S) := hS.imp id (fun h z => by omega)
  intro n
  induction n with
  | zero => intro p cs hp hn; omega
  | succ n ih =>
    intro p cs hp hn h78
    have ql := @sk_le p L B hp
    have qg := @sk_ge p L B
    have wl := @we_le (sk B L p) L B ql
    rw [joinP]
    by_cases z : LEa B L (sk B L p) ∧ PT B (sk B L p)
    · rw [if_pos z]
      exact yG_pt hd6 hp z.1 z.2
    rw [if_neg z]
    by_cases z2 : HW B L (sk B L p) (wdL 79)
    · rw [if_pos z2]
      have wg := we_gt z2.1.1
      have e1 : yG B L m p S (O ++ cs) d = yA B L m (we B L (sk B L p)) (11 :: S) (O ++ cs) d := by
        rw [yG_s hd6 hp, if_neg (fun y => SI_nw y.1 (by omega) z2), if_neg h78, if_pos z2, dw_n nd]
      have I := ho (we B L (sk B L p)) (11 :: S) (O ++ cs) wl ⟨show (11 : Nat) ≠ 12 by decide, show (11 : Nat) ≠ 10 by decide⟩
      have ok := hok (we B L (sk B L p)) wl
      rw [e1]
      cases hpr : one (we B L (sk B L p)) with
      | inl e =>
        rw [hpr] at I
        rcases I with h | h
        · exact Or.inl h
        · exact Or.inr ⟨fun y => h.1 (List.mem_cons_of_mem _ y), h.2⟩
      | inr e =>
        obtain ⟨p1, c1⟩ := e
        rw [hpr] at I ok
        obtain ⟨⟨o1, o2, -⟩, -⟩ := ok
        obtain ⟨I1, I2⟩ := I
        have e2 : yA B L m (we B L (sk B L p)) (11 :: S) (O ++ cs) d = yG B L m p1 S (O ++ (cs ++ c1 ++ [11])) d := by
          rw [I1, pend11 hd6 o2 I2]
          simp only [List.append_assoc]
        have J := ih p1 (cs ++ c1 ++ [11]) o2 (by omega) I2
        show (match joinP B L one 79 11 n p1 (cs ++ c1 ++ [11]) with | .inl e => _ | .inr (p', cs') => _)
        rw [e2]
        exact J
    rw [if_neg z2]
    by_cases z3 : LEa B L (sk B L p)
    · rw [if_pos z3]
      exact ⟨rfl, h78, z2⟩
    · rw [if_neg z3]
      exact ⟨(yG_sk hd6 hp).symm, by rw [sk_sk]; exact h78, by rw [sk_sk]; exact z2⟩
theorem testM (hd6 : d ≤ 6) (hS : S = [] ∨ hd S = 25) (hp : p ≤ L) (ho : ∀ p S O, p ≤ L → hd S ≠ 12 ∧ hd S ≠ 10 → simB B L m (bothP B L m rs d p) p S O d) (hok : ∀ p, p ≤ L → okP B L m p (bothP B L m rs d p)) : simU B L m (testP B L m rs d p) p S O d := by
  have hS2 : hd S ≠ 12 ∧ hd S ≠ 10 := by
    rcases hS with h | h
    · subst h
      exact ⟨by decide, by decide⟩
    · exact ⟨by omega, by omega⟩
  have I := ho p S O hp hS2
  have ok := hok p hp
  unfold testP
  cases hpr : bothP B L m rs d p with
  | inl e =>
    rw [hpr] at I
    exact ⟨I, trivial⟩
  | inr e =>
    obtain ⟨p1, c1⟩ := e
    rw [hpr] at I ok
    obtain ⟨⟨o1, o2, -⟩, -⟩ := ok
    obtain ⟨I1, I2⟩ := I
    have J := joinM11 (O := O) hd6 hS ho hok (L - p1 + 1) p1 c1 o2 (by omega) I2
    show simU B L m (joinP B L (bothP B L m rs d) 79 11 (L - p1 + 1) p1 c1) p S O d
    unfold simU simB
    rw [I1]
    cases hpr2 : joinP B L (bothP B L m rs d) 79 11 (L - p1 + 1) p1 c1 with
    | inl e =>
      rw [hpr2] at J
      exact ⟨J, trivial⟩
    | inr e =>
      obtain ⟨p2, c2⟩ := e
      rw [hpr2] at J
      exact ⟨⟨J.1, J.2.1⟩, J.2.2⟩
theorem psN : ∀ n d, 6 ≤ n + d → d ≤ 6 → d ≠ 6 → (∀ p S O, p ≤ L → (S = [] ∨ hd S = 25) → simU B L m (psD B L m n 2 (d + 1) p) p S O (d + 1)) ∧ (∀ p S O, p ≤ L → simF B L m (psD B L m n 3 (d + 1) p) p S O (d + 1)) := by
  intro n
  induction n with
  | zero => intro d h1 h2 h3; omega
  | succ n ih =>
    intro d h1 h2 h3
    have hok : d + 1 ≠ 6 → ∀ t p, p ≤ L → okP B L m p (psD B L m n t (d + 1 + 1) p) := fun h t p hp => psD_ok n t (d + 1 + 1) p (by omega) (by omega) hp
    have f1 : ∀ p S O, p ≤ L → simF B L m (factP B L m (psD B L m n) (d + 1) p) p S O (d + 1) := fun p S O hp => factM (by omega) hp (by omega) (fun h => (ih (d + 1) (by omega) (by omega) h).1) (fun h => (ih (d + 1) (by omega) (by omega) h).2)
    have b1 : ∀ p S O, p ≤ L → hd S ≠ 12 ∧ hd S ≠ 10 → simB B L m (bothP B L m (psD B L m n) (d + 1) p) p S O (d + 1) := fun p S O hp hS => bothM (by omega) hS hp f1 (fun p hp => fact_ok hp hok)
    exact ⟨fun p S O hp hS => testM (by omega) hS hp b1 (fun p hp => both_ok hp hok), f1⟩
/-- the whole test -/
theorem testM_top (hp : p ≤ L) : match testP B L m (psD B L m 64) 0 p with
    | .inl e => yA B L m p [] O 0 = .inl e ∨ (e.1 = 1 ∧ LEa B L e.2 ∧ ∃ O', yA B L m p [] O 0 = .inr (e.2, O'))
    | .inr (p', cs) => yA B L m p [] O 0 = .inr (sk B L p', O ++ cs) := by
  have hok : 0 ≠ 6 → ∀ t p, p ≤ L → okP B L m p (psD B L m 64 t (0 + 1) p) := fun h t p hp => psD_ok 64 t 1 p (by omega) (by omega) hp
  have f1 : ∀ p S O, p ≤ L → simF B L m (factP B L m (psD B L m 64) 0 p) p S O 0 := fun p S O hp => factM (by omega) hp (by omega) (fun h => (psN 64 0 (by omega) (by omega) h).1) (fun h => (psN 64 0 (by omega) (by omega) h).2)
  have b1 : ∀ p S O, p ≤ L → hd S ≠ 12 ∧ hd S ≠ 10 → simB B L m (bothP B L m (psD B L m 64) 0 p) p S O 0 := fun p S O hp hS => bothM (by omega) hS hp f1 (fun p hp => fact_ok hp hok)
  have I := testM (B := B) (L := L) (m := m) (O := O) (by omega) (Or.inl rfl) hp b1 (fun p hp => both_ok hp hok)
  have ok := test_ok (B := B) (m := m) (rs := psD B L m 64) (d := 0) hp hok
  cases hpr : testP B L m (psD B L m 64) 0 p with
  | inl e =>
    rw [hpr] at I
    rcases I.1 with h | h
    · exact Or.inl h
    · exact Or.inr h.2
  | inr e =>
    obtain ⟨p1, c1⟩ := e
    rw [hpr] at I ok
    obtain ⟨⟨i1, i2⟩, i3⟩ := I
    show yA B L m p [] O 0 = _
    rw [i1, yG_s (by omega) ok.1.2.1, if_neg (fun y => by cases y.2), if_neg i2, if_neg i3, if_neg (by simp), List.append_nil]
end PTN

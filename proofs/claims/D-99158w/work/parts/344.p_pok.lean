/-! PARSER, what the pure one gives: places, lengths, which codes -/
set_option maxRecDepth 100000
def okd (m c : Nat) : Prop := c < 12000 ∧ (1 ≤ c ∧ c ≤ 13 ∨ (40 ≤ c ∧ c < 48 ∧ alw m (c - 40)) ∨ 1000 ≤ c ∨ m = 3 ∧ c = 60)
def okP (B : Nat → Nat) (L m p : Nat) (pr : PRes) : Prop := match pr with
  | .inl e => (e.1 = 1 ∨ e.1 = 2 ∨ e.1 = 4) ∧ e.2 ≤ L
  | .inr (p', cs) => (p < p' ∧ p' ≤ L ∧ we B L (sk B L p) ≤ p') ∧ (0 < cs.length ∧ cs.length ≤ p' - p) ∧ ∀ c, c ∈ cs → okd m c
section POK
variable {B : Nat → Nat} {L m p q p0 p1 d k c lo hi : Nat} {rs : Nat → Nat → Nat → PRes} {cs c1 c2 : List Nat}
theorem we_0 (h : ¬ LEa B L (sk B L p)) : we B L (sk B L p) = sk B L p := we_n h
theorem SI_nl (h : SI B L q c) (hc : c < 97 ∨ 122 < c) : ¬ LEa B L q := fun z => by
  have h1 := h.2
  have h2 := z.2
  omega
theorem nuF_i (hq : q ≤ L) : ∀ (j r v : Nat), r ≤ L → match nuF B L q lo hi j r v with
    | .inl e => (e.1 = 1 ∨ e.1 = 2) ∧ e.2 ≤ L
    | .inr (r', v') => (r ≤ r' ∧ r' ≤ L) ∧ (lo ≤ v' ∧ v' ≤ hi) ∧ ¬ DIa B L r' ∧ ∀ i, r ≤ i → i < r' → DIa B L i
  | 0, r, v, hr => ⟨Or.inl rfl, hr⟩
  | j + 1, r, v, hr => by
    rw [nuF]
    by_cases z : DIa B L r
    · rw [if_pos z]
      by_cases z4 : r - q = 4
      · rw [if_pos z4]
        exact ⟨Or.inl rfl, hr⟩
      · rw [if_neg z4]
        have I := nuF_i hq j (r + 1) (10 * v + B r - 48) (by have := z.1; omega)
        cases hn : nuF B L q lo hi j (r + 1) (10 * v + B r - 48) with
        | inl e => rw [hn] at I; exact I
        | inr e =>
          rw [hn] at I
          obtain ⟨r', v'⟩ := e
          obtain ⟨i1, i2, i3, i4⟩ := I
          refine ⟨⟨by omega, i1.2⟩, i2, i3, fun i h1 h2 => ?_⟩
          by_cases e : i = r
          · subst e; exact z
          · exact i4 i (by omega) h2
    · rw [if_neg z]
      by_cases y : lo ≤ v ∧ v ≤ hi
      · rw [if_pos y]
        exact ⟨⟨Nat.le_refl _, hr⟩, y, z, fun i h1 h2 => by omega⟩
      · rw [if_neg y]
        exact ⟨Or.inr rfl, hq⟩
theorem nu_i (hp : p ≤ L) : match nu B L lo hi p with
    | .inl e => (e.1 = 1 ∨ e.1 = 2) ∧ e.2 ≤ L
    | .inr (r', v') => (sk B L p < r' ∧ r' ≤ L) ∧ (lo ≤ v' ∧ v' ≤ hi) ∧ PT B r' ∧ DIa B L (sk B L p) := by
  have ql := @sk_le p L B hp
  unfold nu
  generalize sk B L p = q at *
  by_cases z : DIa B L q ∧ ¬ PT B q
  · rw [if_pos z]
    have I := nuF_i (B := B) (lo := lo) (hi := hi) ql 5 q 0 ql
    cases hn : nuF B L q lo hi 5 q 0 with
    | inl e => rw [hn] at I; exact I
    | inr e =>
      rw [hn] at I
      obtain ⟨r', v'⟩ := e
      obtain ⟨i1, i2, i3, i4⟩ := I
      have hne : q ≠ r' := fun y => i3 (by rw [← y]; exact z.1)
      exact ⟨⟨by omega, i1.2⟩, i2, ⟨by omega, Or.inr (i4 (r' - 1) (by omega) (by omega)).2⟩, z.1⟩
  · rw [if_neg z]
    exact ⟨Or.inl rfl, ql⟩
theorem okP_pb {x : PRes} {f : Nat → List Nat → PRes} (h : okP B L m p x) (hf : ∀ p1 c1, (p < p1 ∧ p1 ≤ L ∧ we B L (sk B L p) ≤ p1) → (0 < c1.length ∧ c1.length ≤ p1 - p) → (∀ c, c ∈ c1 → okd m c) → okP B L m p0 (f p1 c1)) : okP B L m p0 (pb x f) := by
  rcases x with e | ⟨p1, c1⟩
  · exact h
  · exact hf p1 c1 h.1 h.2.1 h.2.2
theorem okP_must {f : Nat → PRes} (hp : p1 ≤ L) (hf : sk B L p1 < L → okP B L m p0 (f (sk B L p1 + 1))) : okP B L m p0 (mustP B L p1 c f) := by
  unfold mustP
  by_cases z : SI B L (sk B L p1) c
  · rw [if_pos z]
    exact hf z.1
  · rw [if_neg z]
    exact ⟨Or.inl rfl, sk_le hp⟩
theorem okP_open {x : Nat} {r : PRes} (hx : x ≤ L) (h : d ≠ 6 → okP B L m p0 r) : okP B L m p0 (openP d x r) := by
  unfold openP
  by_cases z : d = 6
  · rw [if_pos z]
    exact ⟨Or.inr (Or.inr rfl), hx⟩
  · rw [if_neg z]
    exact h z
theorem okP_inr (h1 : p < p1 ∧ p1 ≤ L ∧ we B L (sk B L p) ≤ p1) (h2 : 0 < cs.length ∧ cs.length ≤ p1 - p) (h3 : ∀ c, c ∈ cs → okd m c) : okP B L m p (.inr (p1, cs)) := ⟨h1, h2, h3⟩
theorem okP_1 (h : q ≤ L) : okP B L m p (.inl (1, q)) := ⟨Or.inl rfl, h⟩
theorem okd_1 {x : Nat} (h : 1 ≤ x ∧ x ≤ 13) : okd m x := ⟨by omega, Or.inl h⟩
theorem within_ok (hp : p ≤ L) (hk : k ≤ 2) (hrs : d ≠ 6 → ∀ t p, p ≤ L → okP B L m p (rs t (d + 1) p)) : okP B L m p (withinP B L rs k d p) := by
  have ql := @sk_le p L B hp
  have qg := @sk_ge p L B
  unfold withinP
  by_cases z : SI B L (sk B L p) 40
  · rw [if_pos z]
    have z1 := z.1
    have w0 := we_0 (SI_nl z (by omega))
    refine okP_open ql fun hd => okP_pb (hrs hd 0 (sk B L p + 1) (by omega)) fun p1 c1 h1 h2 h3 => ?_
    by_cases k0 : k = 0
    · rw [if_pos k0]
      refine okP_must h1.2.1 fun hl => ?_
      have g1 := @sk_ge p1 L B
      exact okP_inr ⟨by omega, by omega, by omega⟩ ⟨h2.1, by omega⟩ h3
    · rw [if_neg k0]
      refine okP_must h1.2.1 fun hl => ?_
      have g1 := @sk_ge p1 L B
      refine okP_pb (hrs hd 0 (sk B L p1 + 1) (by omega)) fun p3 c2 h4 h5 h6 => okP_must h4.2.1 fun hl2 => ?_
      have g2 := @sk_ge p3 L B
      refine okP_inr ⟨by omega, by omega, by omega⟩ ⟨by simp <;> omega, by simp only [List.length_append, List.length_cons, List.length_nil]; omega⟩ fun c hc => ?_
      simp only [List.mem_append, List.mem_cons, List.not_mem_nil, or_false] at hc
      rcases hc with (hc | hc) | hc
      · exact h3 c hc
      · exact h6 c hc
      · subst hc
        exact okd_1 (by omega)
  · rw [if_neg z]
    exact okP_1 ql
theorem fdF_i (e : Nat) (l : List (List Nat)) : ∀ (n j : Nat), match fdF B q e l n j with
    | some i => j ≤ i ∧ i < j + n ∧ WQ B q e (l.getD i [])
    | none => ∀ i, j ≤ i → i < j + n → ¬ WQ B q e (l.getD i [])
  | 0, j => fun i h1 h2 => by omega
  | n + 1, j => by
    rw [fdF]
    by_cases z : WQ B q e (l.getD j [])
    · rw [if_pos z]
      exact ⟨Nat.le_refl _, by omega, z⟩
    · rw [if_neg z]
      have I := fdF_i e l n (j + 1)
      cases hn : fdF B q e l n (j + 1) with
      | none =>
        rw [hn] at I
        intro i h1 h2
        by_cases y : i = j
        · subst y; exact z
        · exact I i (by omega) (by omega)
      | some i =>
        rw [hn] at I
        exact ⟨by omega, by omega, I.2.2⟩
theorem fd_s {e : Nat} {l : List (List Nat)} {j : Nat} (h : fd B q e l = some j) : j < l.length ∧ WQ B q e (l.getD j []) := by
  have I := fdF_i (B := B) (q := q) e l l.length 0
  unfold fd at h
  rw [h] at I
  exact ⟨by omega, I.2.2⟩
theorem fd_n {e : Nat} {l : List (List Nat)} (h : fd B q e l = none) : ∀ i, i < l.length → ¬ WQ B q e (l.getD i []) := by
  have I := fdF_i (B := B) (q := q) e l l.length 0
  unfold fd at h
  rw [h] at I
  exact fun i hi => I i (by omega) (by omega)
theorem okP_to {rs' : PRes} (h : okP B L m p1 rs') (h1 : p ≤ p1) (h2 : we B L (sk B L p) ≤ p1) : okP B L m p rs' := by
  rcases rs' with e | ⟨p', cs⟩
  · exact h
  · obtain ⟨a1, a2, a3⟩ := h
    exact ⟨⟨by omega, a1.2.1, by omega⟩, ⟨a2.1, by omega⟩, a3⟩
theorem atom_ok (hp : p ≤ L) (hrs : d ≠ 6 → ∀ t p, p ≤ L → okP B L m p (rs t (d + 1) p)) : okP B L m p (atomP B L m rs d p) := by
  have ql := @sk_le p L B hp
  have qg := @sk_ge p L B
  unfold atomP
  by_cases z : SI B L (sk B L p) 40
  · rw [if_pos z]
    exact within_ok hp (by omega) hrs
  rw [if_neg z]
  by_cases z2 : DIa B L (sk B L p)
  · rw [if_pos z2]
    have I := nu_i (B := B) (lo := 0) (hi := 9999) hp
    have nl : ¬ LEa B L (sk B L p) := fun y => by
      have a1 := y.2
      have a2 := z2.2
      omega
    cases hn : nu B L 0 9999 p with
    | inl e =>
      rw [hn] at I
      exact ⟨by omega, I.2⟩
    | inr e =>
      rw [hn] at I
      obtain ⟨r', v'⟩ := e
      obtain ⟨i1, i2, i3⟩ := I
      refine okP_inr ⟨by omega, i1.2, by rw [we_0 nl]; omega⟩ ⟨by simp <;> omega, by simp only [List.length_cons, List.length_nil]; omega⟩ fun c hc => ?_
      simp only [List.mem_cons, List.not_mem_nil, or_false] at hc
      subst hc
      exact ⟨by omega, Or.inr (Or.inr (Or.inl (by omega)))⟩
  rw [if_neg z2]
  by_cases z3 : LEa B L (sk B L p) ∧ ¬ PT B (sk B L p)
  rotate_left
  · rw [if_neg z3]
    exact okP_1 ql
  rw [if_pos z3]
  have wl := @we_le (sk B L p) L B ql
  have wg := @we_gt (sk B L p) L B z3.1
  cases hf : fd B (sk B L p) (we B L (sk B L p)) askL with
  | some j =>
    have hj := (fd_s hf).1
    have hj8 : j < 8 := hj
    show okP B L m p (if alw m j then _ else _)
    by_cases y : alw m j
    · rw [if_pos y]
      refine okP_inr ⟨by omega, wl, Nat.le_refl _⟩ ⟨by simp <;> omega, by simp only [List.length_cons, List.length_nil]; omega⟩ fun c hc => ?_
      simp only [List.mem_cons, List.not_mem_nil, or_false] at hc
      subst hc
      refine ⟨by omega, Or.inr (Or.inl ⟨by omega, by omega, ?_⟩)⟩
      rw [show 40 + j - 40 = j by omega]
      exact y
    · rw [if_neg y]
      by_cases y2 : m = 3 ∧ j = 2
      · rw [if_pos y2]
        refine okP_open ql fun hd => okP_pb (hrs hd 1 _ wl) fun p1 c1 h1 h2 h3 => ?_
        refine okP_inr ⟨by omega, h1.2.1, by omega⟩ ⟨by simp <;> omega, by simp only [List.length_append, List.length_cons, List.length_nil]; omega⟩ fun c hc => ?_
        simp only [List.mem_append, List.mem_cons, List.not_mem_nil, or_false] at hc
        rcases hc with hc | hc
        · exact h3 c hc
        · subst hc
          exact ⟨by omega, Or.inr (Or.inr (Or.inr ⟨y2.1, rfl⟩))⟩
      · rw [if_neg y2]
        exact okP_1 ql
  | none =>
    show okP B L m p (if WQ B _ _ (wdL 81) then _ else _)
    by_cases y : WQ B (sk B L p) (we B L (sk B L p)) (wdL 81)
    · rw [if_pos y]
      exact okP_to (within_ok wl (by omega) hrs) (by omega) (Nat.le_refl _)
    · rw [if_neg y]
      by_cases y2 : WQ B (sk B L p) (we B L (sk B L p)) (wdL 82)
      · rw [if_pos y2]
        exact okP_to (within_ok wl (by omega) hrs) (by omega) (Nat.le_refl _)
      · rw [if_neg y2]
        exact okP_1 ql
theorem okd_app {x : Nat} (h1 : ∀ c, c ∈ cs → okd m c) (h2 : ∀ c, c ∈ c1 → okd m c) (h3 : 1 ≤ x ∧ x ≤ 13) : ∀ c, c ∈ cs ++ c1 ++ [x] → okd m c := fun c hc => by
  simp only [List.mem_append, List.mem_cons, List.not_mem_nil, or_false] at hc
  rcases hc with (hc | hc) | hc
  · exact h1 c hc
  · exact h2 c hc
  · subst hc
    exact okd_1 h3
theorem chain_ok {one : Nat → PRes} {x y k : Nat} (hk : 1 ≤ k ∧ k ≤ 3) (ho : ∀ p, p ≤ L → okP B L m p (one p)) : ∀ (n p : Nat) (cs : List Nat), (p0 < p ∧ p ≤ L ∧ we B L (sk B L p0) ≤ p) → (0 < cs.length ∧ cs.length ≤ p - p0) → (∀ c, c ∈ cs → okd m c) → okP B L m p0 (chainP B L one x y k n p cs)
  | 0, p, cs, h1, h2, h3 => okP_inr h1 h2 h3
  | n + 1, p, cs, h1, h2, h3 => by
    have ql := @sk_le p L B h1.2.1
    have qg := @sk_ge p L B
    rw [chainP]
    by_cases z : SI B L (sk B L p) x
    · rw [if_pos z]
      refine okP_pb (ho _ (by have := z.1; omega)) fun p1 c1 g1 g2 g3 => chain_ok hk ho n p1 _ ⟨by omega, g1.2.1, by omega⟩ ⟨by simp <;> omega, ?_⟩ (okd_app h3 g3 (by omega))
      simp only [List.length_append, List.length_cons, List.length_nil]
      omega
    rw [if_neg z]
    by_cases z2 : SI B L (sk B L p) y
    · rw [if_pos z2]
      refine okP_pb (ho _ (by have := z2.1; omega)) fun p1 c1 g1 g2 g3 => chain_ok hk ho n p1 _ ⟨by omega, g1.2.1, by omega⟩ ⟨by simp <;> omega, ?_⟩ (okd_app h3 g3 (by omega))
      simp only [List.length_append, List.length_cons, List.length_nil]
      omega
    rw [if_neg z2]
    exact okP_inr ⟨by omega, ql, by omega⟩ ⟨h2.1, by omega⟩ h3
theorem prod_ok (hp : p ≤ L) (hrs : d ≠ 6 → ∀ t p, p ≤ L → okP B L m p (rs t (d + 1) p)) : okP B L m p (prodP B L m rs d p) :=
  okP_pb (atom_ok hp hrs) fun p1 c1 h1 h2 h3 => chain_ok (by omega) (fun p hp => atom_ok hp hrs) _ p1 c1 h1 h2 h3
theorem sum_ok (hp : p ≤ L) (hrs : d ≠ 6 → ∀ t p, p ≤ L → okP B L m p (rs t (d + 1) p)) : okP B L m p (sumP B L m rs d p) :=
  okP_pb (prod_ok hp hrs) fun p1 c1 h1 h2 h3 => chain_ok (by omega) (fun p hp => prod_ok hp hrs) _ p1 c1 h1 h2 h3
theorem than_ok (hp : p ≤ L) (hrs : d ≠ 6 → ∀ t p, p ≤ L → okP B L m p (rs t (d + 1) p)) : okP B L m p (thanP B L m rs d p) := by
  refine okP_pb (sum_ok hp hrs) fun p1 c1 h1 h2 h3 => ?_
  have ql := @sk_le p1 L B h1.2.1
  have qg := @sk_ge p1 L B
  have go : ∀ x, 1 ≤ x ∧ x ≤ 13 → sk B L p1 < L → okP B L m p (pb (sumP B L m rs d (sk B L p1 + 1)) fun p2 c2 => .inr (p2, c1 ++ c2 ++ [x])) := fun x hx hl => by
    refine okP_pb (sum_ok (by omega) hrs) fun p2 c2 g1 g2 g3 => okP_inr ⟨by omega, g1.2.1, by omega⟩ ⟨by simp <;> omega, ?_⟩ (okd_app h3 g3 hx)
    simp only [List.length_append, List.length_cons, List.length_nil]
    omega
  by_cases z : SI B L (sk B L p1) 60
  · rw [if_pos z]
    exact go 7 (by omega) z.1
  rw [if_neg z]
  by_cases z : SI B L (sk B L p1) 62
  · rw [if_pos z]
    exact go 8 (by omega) z.1
  rw [if_neg z]
  by_cases z : SI B L (sk B L p1) 61
  · rw [if_pos z]
    exact go 9 (by omega) z.1
  rw [if_neg z]
  exact okP_1 ql
theorem fact_ok (hp : p ≤ L) (hrs : d ≠ 6 → ∀ t p, p ≤ L → okP B L m p (rs t (d + 1) p)) : okP B L m p (factP B L m rs d p) := by
  have ql := @sk_le p L B hp
  have qg := @sk_ge p L B
  unfold factP
  by_cases z : SI B L (sk B L p) 91
  · rw [if_pos z]
    have z1 := z.1
    refine okP_open ql fun hd => okP_pb (hrs hd 2 _ (by omega)) fun p1 c1 h1 h2 h3 => okP_must h1.2.1 fun hl => ?_
    have g1 := @sk_ge p1 L B
    exact okP_inr ⟨by omega, by omega, by rw [we_0 (SI_nl z (by omega))]; omega⟩ ⟨h2.1, by omega⟩ h3
  rw [if_neg z]
  by_cases z1 : LEa B L (sk B L p) ∧ PT B (sk B L p)
  · rw [if_pos z1]
    exact okP_1 ql
  rw [if_neg z1]
  have wl := @we_le (sk B L p) L B ql
  by_cases z2 : HW B L (sk B L p) (wdL 77)
  · rw [if_pos z2]
    have wg := @we_gt (sk B L p) L B z2.1.1
    refine okP_open ql fun hd => okP_pb (hrs hd 3 _ wl) fun p1 c1 h1 h2 h3 => ?_
    refine okP_inr ⟨by omega, h1.2.1, by omega⟩ ⟨by simp <;> omega, by simp only [List.length_append, List.length_cons, List.length_nil]; omega⟩ fun c hc => ?_
    simp only [List.mem_append, List.mem_cons, List.not_mem_nil, or_false] at hc
    rcases hc with hc | hc
    · exact h3 c hc
    · subst hc
      exact okd_1 (by omega)
  rw [if_neg z2]
  by_cases z3 : HW B L (sk B L p) (wdL 80)
  · rw [if_pos z3]
    have wg := @we_gt (sk B L p) L B z3.1.1
    refine okP_inr ⟨by omega, wl, Nat.le_refl _⟩ ⟨by simp <;> omega, by simp only [List.length_cons, List.length_nil]; omega⟩ fun c hc => ?_
    simp only [List.mem_cons, List.not_mem_nil, or_false] at hc
    subst hc
    exact okd_1 (by omega)
  rw [if_neg z3]
  exact than_ok hp hrs
theorem join_ok {one : Nat → PRes} {w k : Nat} (hk : 1 ≤ k ∧ k ≤ 13) (ho : ∀ p, p ≤ L → okP B L m p (one p)) : ∀ (n p : Nat) (cs : List Nat), (p0 < p ∧ p ≤ L ∧ we B L (sk B L p0) ≤ p) → (0 < cs.length ∧ cs.length ≤ p - p0) → (∀ c, c ∈ cs → okd m c) → okP B L m p0 (joinP B L one w k n p cs)
  | 0, p, cs, h1, h2, h3 => okP_inr h1 h2 h3
  | n + 1, p, cs, h1, h2, h3 => by
    have ql := @sk_le p L B h1.2.1
    have qg := @sk_ge p L B
    rw [joinP]
    by_cases z : LEa B L (sk B L p) ∧ PT B (sk B L p)
    · rw [if_pos z]
      exact okP_1 ql
    rw [if_neg z]
    by_cases z2 : HW B L (sk B L p) (wdL w)
    · rw [if_pos z2]
      have wl := @we_le (sk B L p) L B ql
      have wg := @we_gt (sk B L p) L B z2.1.1
      refine okP_pb (ho _ wl) fun p1 c1 g1 g2 g3 => join_ok hk ho n p1 _ ⟨by omega, g1.2.1, by omega⟩ ⟨by simp <;> omega, ?_⟩ (okd_app h3 g3 hk)
      simp only [List.length_append, List.length_cons, List.length_nil]
      omega
    rw [if_neg z2]
    by_cases z3 : LEa B L (sk B L p)
    · rw [if_pos z3]
      exact okP_inr h1 h2 h3
    · rw [if_neg z3]
      exact okP_inr ⟨by omega, ql, by omega⟩ ⟨h2.1, by omega⟩ h3
theorem both_ok (hp : p ≤ L) (hrs : d ≠ 6 → ∀ t p, p ≤ L → okP B L m p (rs t (d + 1) p)) : okP B L m p (bothP B L m rs d p) :=
  okP_pb (fact_ok hp hrs) fun p1 c1 h1 h2 h3 => join_ok (by omega) (fun p hp => fact_ok hp hrs) _ p1 c1 h1 h2 h3
theorem test_ok (hp : p ≤ L) (hrs : d ≠ 6 → ∀ t p, p ≤ L → okP B L m p (rs t (d + 1) p)) : okP B L m p (testP B L m rs d p) :=
  okP_pb (both_ok hp hrs) fun p1 c1 h1 h2 h3 => join_ok (by omega) (fun p hp => both_ok hp hrs) _ p1 c1 h1 h2 h3
theorem psD_ok : ∀ (n t d p : Nat), 7 ≤ n + d → d ≤ 6 → p ≤ L → okP B L m p (psD B L m n t d p)
  | 0, t, d, p, h1, h2, h3 => by omega
  | n + 1, t, d, p, h1, h2, h3 => by
    have hrs : d ≠ 6 → ∀ t p, p ≤ L → okP B L m p (psD B L m n t (d + 1) p) := fun hd t p hp => psD_ok n t (d + 1) p (by omega) (by omega) hp
    match t with
    | 0 => exact sum_ok h3 hrs
    | 1 => exact atom_ok h3 hrs
    | 2 => exact test_ok h3 hrs
    | t + 3 => exact fact_ok h3 hrs
end POK

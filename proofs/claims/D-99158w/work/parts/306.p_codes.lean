/-! PLAIN LAW, codes: what they tell, and that the twin's pile tells it -/
set_option maxRecDepth 100000
def clp (v : Int64) : Int64 := if v ≤ 1000000 then (if -1000000 ≤ v then v else -1000000) else 1000000
def flr (x y : Int64) : Int64 := if y = 0 then 0 else if x - x / y * y = 0 then x / y else if (0 ≤ x ↔ 0 ≤ y) then x / y else x / y - 1
def jn (c : Nat) (x y : Int64) : Int64 :=
  if c = 1 then clp (x + y) else if c = 2 then clp (x - y) else if c = 3 then clp (x * y) else if c = 4 then flr x y
  else if c = 5 then (if y ≤ x then y else x) else if c = 6 then (if x ≤ y then y else x)
  else if c = 7 then (if y ≤ x then 0 else 1) else if c = 8 then (if x ≤ y then 0 else 1) else if c = 9 then (if x = y then 1 else 0)
  else if c = 10 then x * y else (if x + y ≤ 0 then 0 else 1)
def stp (ev : Nat → Int64) (fo : Int64 → Int64) (c : Nat) (st : List Int64) : Option (List Int64) :=
  if 1000 ≤ c then some (lN (c - 1000) :: st)
  else if 60 ≤ c then (match st with | x :: r => some (fo x :: r) | [] => none)
  else if 40 ≤ c then some (ev (c - 40) :: st)
  else if c = 13 then some (1 :: st)
  else if c = 12 then (match st with | x :: r => some ((1 - x) :: r) | [] => none)
  else (match st with | y :: x :: r => some (jn c x y :: r) | _ => none)
def rn (ev : Nat → Int64) (fo : Int64 → Int64) : List Nat → List Int64 → Option (List Int64)
  | [], st => some st
  | c :: cs, st => (stp ev fo c st).bind (rn ev fo cs)
/-- codes that tell v -/
def CV (ev : Nat → Int64) (fo : Int64 → Int64) (cs : List Nat) (v : Int64) : Prop := ∀ st, rn ev fo cs st = some (v :: st)
section PCD
variable {ev : Nat → Int64} {fo : Int64 → Int64} {cs cs1 cs2 : List Nat} {st : List Int64} {v v1 v2 x y : Int64} {c n : Nat} {σ σ' : MS}
theorem rn_app : rn ev fo (cs1 ++ cs2) st = (rn ev fo cs1 st).bind (rn ev fo cs2) := by
  induction cs1 generalizing st with
  | nil => rfl
  | cons c cs1 ih =>
    simp only [List.cons_append, rn]
    cases stp ev fo c st with
    | none => rfl
    | some s => exact ih
theorem CV_num : CV ev fo [1000 + n] (lN n) := by
  intro st
  simp [rn, stp]
theorem CV_part (h : n < 20) : CV ev fo [40 + n] (ev n) := by
  intro st
  have h1 : ¬ 1000 ≤ 40 + n := by omega
  have h2 : ¬ 60 ≤ 40 + n := by omega
  simp [rn, stp, h1, h2]
theorem CV_all : CV ev fo [13] 1 := by
  intro st
  simp [rn, stp]
theorem CV_not (h : CV ev fo cs v) : CV ev fo (cs ++ [12]) (1 - v) := by
  intro st
  rw [rn_app, h st]
  simp [rn, stp]
theorem CV_of (h : CV ev fo cs v) : CV ev fo (cs ++ [60]) (fo v) := by
  intro st
  rw [rn_app, h st]
  simp [rn, stp]
theorem CV_two (h1 : CV ev fo cs1 v1) (h2 : CV ev fo cs2 v2) (hc : c < 12) : CV ev fo (cs1 ++ cs2 ++ [c]) (jn c v1 v2) := by
  intro st
  rw [rn_app, rn_app, h1 st, bsm, h2 (v1 :: st), bsm]
  have e1 : ¬ 1000 ≤ c := by omega
  have e2 : ¬ 60 ≤ c := by omega
  have e3 : ¬ 40 ≤ c := by omega
  have e4 : ¬ c = 13 := by omega
  have e5 : ¬ c = 12 := by omega
  simp [rn, stp, e1, e2, e3, e4, e5]
-- the twin's pile
def PL (σ : MS) (st : List Int64) : Prop := σ.1 98 = nI st.length ∧ ∀ i, i < st.length → σ.2.2.2 97 (st.length - 1 - i) = st.getD i 0
/-- but for the pile all is as before -/
def QF (σ σ' : MS) : Prop := σ'.2.2.1 = σ.2.2.1 ∧ σ'.2.1 = σ.2.1 ∧ (∀ k, k ≠ 98 → σ'.1 k = σ.1 k) ∧ (∀ k, k ≠ 97 → σ'.2.2.2 k = σ.2.2.2 k)
theorem QF.refl (σ : MS) : QF σ σ := ⟨rfl, rfl, fun _ _ => rfl, fun _ _ => rfl⟩
theorem QF.tr {σ1 σ2 : MS} (h : QF σ σ1) (g : QF σ1 σ2) : QF σ σ2 := ⟨g.1.trans h.1, g.2.1.trans h.2.1, fun k hk => (g.2.2.1 k hk).trans (h.2.2.1 k hk), fun k hk => (g.2.2.2 k hk).trans (h.2.2.2 k hk)⟩
theorem puts (P : PL σ st) (hn : st.length < 1700) (v : Int64) : ∃ σ', fX6_qPuts σ v = some σ' ∧ PL σ' (v :: st) ∧ QF σ σ' := by
  obtain ⟨p1, p2⟩ := P
  refine ⟨sI (sB σ 97 st.length v) 98 (nI (st.length + 1)), ?_, ⟨?_, fun i hi => ?_⟩, rfl, rfl, fun k hk => ?_, fun k hk => ?_⟩
  · simp only [fX6_qPuts, p1, tp97 hn, bsm, sB_1, nI_1]
  · rw [sI_s, List.length_cons]
  · rw [sI_2, sB_e]
    simp only [List.length_cons] at hi ⊢
    cases i with
    | zero => simp
    | succ i => rw [if_neg (by omega), List.getD_cons_succ, ← p2 i (by omega)]; exact congrArg _ (by omega)
  · rw [sI_n hk]; rfl
  · rw [sI_2, sB_n hk]
theorem clip_o (σ : MS) (v : Int64) : fX6_qClip σ v = some (clp v) := by
  unfold fX6_qClip clp
  split
  · split <;> rfl
  · rfl
theorem floor_o (σ : MS) (x y : Int64) : fX6_qFloor σ x y = some (flr x y) := by
  unfold fX6_qFloor flr
  by_cases h0 : y = 0
  · simp [h0]
  · simp only [h0, if_false, nzl, bsm]
    by_cases h1 : x - x / y * y = 0
    · simp only [h1, if_true]
    · simp only [h1, if_false]
      unfold fX6_qFloor_32 fX6_qFloor_43
      by_cases h2 : (0 : Int64) ≤ x
      · by_cases h3 : (0 : Int64) ≤ y
        · simp [h2, h3]
        · simp [h2, h3]
      · by_cases h3 : (0 : Int64) ≤ y
        · simp [h2, h3]
        · simp [h2, h3]
theorem PL_two (P : PL σ (y :: x :: st)) : σ.1 98 = nI (st.length + 2) ∧ σ.2.2.2 97 (st.length + 1) = y ∧ σ.2.2.2 97 st.length = x ∧ PL (sI σ 98 (nI st.length)) st := by
  obtain ⟨p1, p2⟩ := P
  refine ⟨p1, ?_, ?_, ⟨by rw [sI_s], fun i hi => ?_⟩⟩
  · have := p2 0 (by simp)
    simpa using this
  · have := p2 1 (by simp)
    simpa using this
  · have := p2 (i + 2) (by simp; omega)
    simp only [List.length_cons, List.getD_cons_succ] at this
    rw [sI_2, ← this]
    exact congrArg _ (by omega)
theorem bs_ {α : Type} (o : Option α) : (o.bind fun x => some x) = o := by cases o <;> rfl
theorem joins (P : PL σ (y :: x :: st)) (hn : st.length + 2 < 1700) (hc : 1 ≤ c) (hc2 : c < 12) : ∃ σ', fX6_qJoins σ (nI c) = some σ' ∧ PL σ' (jn c x y :: st) ∧ QF σ σ' := by
  obtain ⟨p1, p2, p3, p4⟩ := PL_two P
  obtain ⟨σ', e1, e2, e3⟩ := puts p4 (by omega) (jn c x y)
  refine ⟨σ', ?_, e2, e3.1, e3.2.1, fun k hk => by rw [e3.2.2.1 k hk, sI_n hk], e3.2.2.2⟩
  have z1 : nI (st.length + 2) - 1 = nI (st.length + 1) := nI_m1 (by omega)
  have z2 : nI (st.length + 2) - 2 = nI st.length := nI_sub (b := 2) (by omega)
  have g1 : aL σ 97 (nI (st.length + 1)) = some y := by rw [tg97 (by omega), p2]
  have g2 : aL σ 97 (nI st.length) = some x := by rw [tg97 (by omega), p3]
  rw [← e1]
  unfold fX6_qJoins
  rw [p1, z1, z2, g1, bsm, g2, bsm]
  rcases (show c = 1 ∨ c = 2 ∨ c = 3 ∨ c = 4 ∨ c = 5 ∨ c = 6 ∨ c = 7 ∨ c = 8 ∨ c = 9 ∨ c = 10 ∨ c = 11 by omega) with h | h | h | h | h | h | h | h | h | h | h <;> subst h
  · rw [if_pos (by decide)]
    rw [clip_o, bsm]
    exact bs_ _
  · rw [if_neg (by decide), if_pos (by decide)]
    rw [clip_o, bsm]
    exact bs_ _
  · rw [if_neg (by decide), if_neg (by decide), if_pos (by decide)]
    rw [clip_o, bsm]
    exact bs_ _
  · rw [if_neg (by decide), if_neg (by decide), if_neg (by decide), if_pos (by decide)]
    rw [floor_o, bsm]
    exact bs_ _
  · rw [if_neg (by decide), if_neg (by decide), if_neg (by decide), if_neg (by decide), if_pos (by decide)]
    by_cases q : y ≤ x
    · rw [if_pos q, show jn 5 x y = _ from if_pos q]
      exact bs_ _
    · rw [if_neg q, show jn 5 x y = _ from if_neg q]
      exact bs_ _
  · rw [if_neg (by decide), if_neg (by decide), if_neg (by decide), if_neg (by decide), if_neg (by decide), if_pos (by decide)]
    by_cases q : x ≤ y
    · rw [if_pos q, show jn 6 x y = _ from if_pos q]
      exact bs_ _
    · rw [if_neg q, show jn 6 x y = _ from if_neg q]
      exact bs_ _
  · rw [if_neg (by decide), if_neg (by decide), if_neg (by decide), if_neg (by decide), if_neg (by decide), if_neg (by decide), if_pos (by decide)]
    by_cases q : y ≤ x
    · rw [if_pos q, show jn 7 x y = _ from if_pos q]
      exact bs_ _
    · rw [if_neg q, show jn 7 x y = _ from if_neg q]
      exact bs_ _
  · rw [if_neg (by decide), if_neg (by decide), if_neg (by decide), if_neg (by decide), if_neg (by decide), if_neg (by decide), if_neg (by decide), if_pos (by decide)]
    by_cases q : x ≤ y
    · rw [if_pos q, show jn 8 x y = _ from if_pos q]
      exact bs_ _
    · rw [if_neg q, show jn 8 x y = _ from if_neg q]
      exact bs_ _
  · rw [if_neg (by decide), if_neg (by decide), if_neg (by decide), if_neg (by decide), if_neg (by decide), if_neg (by decide), if_neg (by decide), if_neg (by decide), if_pos (by decide)]
    by_cases q : x = y
    · rw [if_pos q, show jn 9 x y = _ from if_pos q]
      exact bs_ _
    · rw [if_neg q, show jn 9 x y = _ from if_neg q]
      exact bs_ _
  · rw [if_neg (by decide), if_neg (by decide), if_neg (by decide), if_neg (by decide), if_neg (by decide), if_neg (by decide), if_neg (by decide), if_neg (by decide), if_neg (by decide), if_pos (by decide)]
    exact bs_ _
  · rw [if_neg (by decide), if_neg (by decide), if_neg (by decide), if_neg (by decide), if_neg (by decide), if_neg (by decide), if_neg (by decide), if_neg (by decide), if_neg (by decide), if_neg (by decide)]
    by_cases q : x + y ≤ 0
    · rw [if_pos q, show jn 11 x y = _ from if_pos q]
      exact bs_ _
    · rw [if_neg q, show jn 11 x y = _ from if_neg q]
      exact bs_ _
/-- one code more -/
theorem PL_one (P : PL σ (x :: st)) : σ.1 98 = nI (st.length + 1) ∧ σ.2.2.2 97 st.length = x := by
  obtain ⟨p1, p2⟩ := P
  refine ⟨p1, ?_⟩
  have := p2 0 (by simp)
  simpa using this
theorem PL_set (P : PL σ (x :: st)) (v : Int64) : PL (sB σ 97 st.length v) (v :: st) ∧ QF σ (sB σ 97 st.length v) := by
  obtain ⟨p1, p2⟩ := P
  refine ⟨⟨p1, fun i hi => ?_⟩, rfl, rfl, fun k hk => rfl, fun k hk => sB_n hk⟩
  rw [sB_e]
  simp only [List.length_cons] at hi ⊢
  cases i with
  | zero => simp
  | succ i =>
    have := p2 (i + 1) (by simp; omega)
    simp only [List.length_cons, List.getD_cons_succ] at this
    rw [if_neg (by omega), List.getD_cons_succ, ← this]
theorem stp_len {st st' : List Int64} (h : stp ev fo c st = some st') : st'.length ≤ st.length + 1 := by
  unfold stp at h
  split at h
  · cases h; simp
  split at h
  · split at h
    · cases h; simp
    · cases h
  split at h
  · cases h; simp
  split at h
  · cases h; simp
  split at h
  · split at h
    · cases h; simp
    · cases h
  split at h
  · cases h; simp
  · cases h
theorem ct_run {f w : Nat} (hw : w < 3) (σ0 : MS) : ∀ (cs : List Nat) (st st' : List Int64) (b : Nat) (σ : MS) (fuel : Nat), cs.length < fuel → b + cs.length ≤ 1600 → st.length + cs.length < 1690 → QF σ0 σ → PL σ st → rn ev fo cs st = some st' → σ0.2.2.1 49 (3 + w) = nI (b + cs.length) → (∀ i, i < cs.length → σ0.2.2.1 50 (1600 + (b + i)) = nI (cs.getD i 0)) → (∀ c, c ∈ cs → c < 12000 ∧ (1 ≤ c ∧ c ≤ 13 ∨ 40 ≤ c ∧ c < 60 ∨ 1000 ≤ c)) → (∀ σ', QF σ0 σ' → ∀ j, 40 + j ∈ cs → j < 20 → fX6_qPartOf σ' (nI j) (nI f) = some (ev j)) → ∃ σ', fX6_codesTell_19 fuel σ (nI w) (nI f) (nI b) = (aL σ' 97 0).bind (fun v => some (σ', v)) ∧ PL σ' st' ∧ QF σ0 σ' := by
  intro cs
  induction cs with
  | nil =>
    intro st st' b σ fuel hf hb hs Q P hr h49 h50 hc hp
    obtain ⟨n, rfl⟩ : ∃ n, fuel = n + 1 := ⟨fuel - 1, by simp at hf; omega⟩
    cases hr
    refine ⟨σ, ?_, P, Q⟩
    have e1 : aI σ 49 (3 + nI w) = some (nI b) := by
      rw [ki3, nI_add, tg49 (by omega), Q.1, h49]
      rfl
    simp only [fX6_codesTell_19, e1, bsm, if_pos (nI_le (Nat.le_refl b) (show b < 2 ^ 31 by omega))]
  | cons c cs ih =>
    intro st st' b σ fuel hf hb hs Q P hr h49 h50 hc hp
    simp only [List.length_cons] at hf hb hs h49 h50
    obtain ⟨n, rfl⟩ : ∃ n, fuel = n + 1 := ⟨fuel - 1, by omega⟩
    have e1 : aI σ 49 (3 + nI w) = some (nI (b + (cs.length + 1))) := by
      rw [ki3, nI_add, tg49 (by omega), Q.1, h49]
    have e2 : aI σ 50 (1600 + nI b) = some (nI c) := by
      have := h50 0 (by omega)
      rw [ki1600, nI_add, tg50 (by omega), Q.1]
      simpa using this
    obtain ⟨hc1, hc2⟩ := hc c (by simp)
    simp only [rn] at hr
    obtain ⟨s1, hs1, hr⟩ := ob hr
    have hl := stp_len hs1
    have key : ∃ σ1, fX6_codesTell_19 (n + 1) σ (nI w) (nI f) (nI b) = fX6_codesTell_19 n σ1 (nI w) (nI f) (nI (b + 1)) ∧ PL σ1 s1 ∧ QF σ0 σ1 := by
      simp only [fX6_codesTell_19]
      rw [e1, bsm, if_neg (nI_ge (show b < b + (cs.length + 1) by omega) (by omega)), e2, bsm]
      unfold stp at hs1
      by_cases k1 : 1000 ≤ c
      · rw [if_pos k1] at hs1
        cases hs1
        obtain ⟨σ1, q1, q2, q3⟩ := puts P (by omega) (lN (c - 1000))
        refine ⟨σ1, ?_, q2, Q.tr q3⟩
        rw [if_neg (by rw [ki1000]; exact nI_nlt k1 (by omega)), ki1000, nI_sub k1, nI_l (by omega), q1]
        simp only [bsm, fX6_codesTell_144, nI_1]
      rw [if_neg k1] at hs1
      have k2 : ¬ 60 ≤ c := by omega
      rw [if_neg k2] at hs1
      rw [if_pos (by rw [ki1000]; exact nI_lt (by omega) (by omega))]
      by_cases k3 : 40 ≤ c
      · rw [if_pos k3] at hs1
        cases hs1
        obtain ⟨σ1, q1, q2, q3⟩ := puts P (by omega) (ev (c - 40))
        refine ⟨σ1, ?_, q2, Q.tr q3⟩
        have hq := hp σ Q (c - 40) (by rw [Nat.add_sub_cancel' k3]; simp) (by omega)
        rw [if_neg (by rw [ki40]; exact nI_nlt k3 (by omega)), ki40, nI_sub k3, hq, bsm, q1]
        simp only [bsm, fX6_codesTell_144, nI_1]
      rw [if_neg k3] at hs1
      rw [if_pos (by rw [ki40]; exact nI_lt (by omega) (by omega))]
      by_cases k4 : c = 13
      · rw [if_pos k4] at hs1
        cases hs1
        obtain ⟨σ1, q1, q2, q3⟩ := puts P (by omega) 1
        refine ⟨σ1, ?_, q2, Q.tr q3⟩
        rw [if_pos (by rw [k4]; rfl), q1]
        simp only [bsm, fX6_codesTell_144, nI_1]
      rw [if_neg k4] at hs1
      rw [if_neg (by rw [ki13, nI_eqE (by omega) (by omega)]; exact k4)]
      by_cases k5 : c = 12
      · rw [if_pos k5] at hs1
        cases st with
        | nil => cases hs1
        | cons x st =>
          cases hs1
          obtain ⟨p1, p2⟩ := PL_one P
          obtain ⟨q2, q3⟩ := PL_set P (1 - x)
          refine ⟨_, ?_, q2, Q.tr q3⟩
          simp only [List.length_cons] at hs
          rw [if_pos (by rw [k5]; rfl), p1, nI_m1 (by omega), Nat.add_sub_cancel, tg97 (by omega), p2, bsm, tp97 (by omega)]
          simp only [bsm, fX6_codesTell_144, nI_1]
      rw [if_neg k5] at hs1
      rw [if_neg (by rw [ki12, nI_eqE (by omega) (by omega)]; exact k5)]
      cases st with
      | nil => cases hs1
      | cons y st =>
        cases st with
        | nil => cases hs1
        | cons x st =>
          cases hs1
          simp only [List.length_cons] at hs
          obtain ⟨σ1, q1, q2, q3⟩ := joins P (by omega) (show 1 ≤ c by omega) (by omega)
          refine ⟨σ1, ?_, q2, Q.tr q3⟩
          rw [q1]
          simp only [bsm, fX6_codesTell_144, nI_1]
    obtain ⟨σ1, q1, q2, q3⟩ := key
    rw [q1]
    refine ih s1 st' (b + 1) σ1 n (by omega) (by omega) (by omega) q3 q2 hr (by rw [h49]; congr 1; omega) (fun i hi => ?_) (fun c' hc' => hc c' (by simp [hc'])) (fun σ' h j hj hj2 => hp σ' h j (by simp [hj]) hj2)
    have := h50 (i + 1) (by omega)
    rw [show b + 1 + i = b + (i + 1) by omega, this]
    simp
/-- what is the same behind codes that tell -/
def QF3 (σ σ' : MS) : Prop := σ'.2.2.1 = σ.2.2.1 ∧ σ'.2.1 = σ.2.1 ∧ (∀ k, k ≠ 98 → k ≠ 53 → σ'.1 k = σ.1 k) ∧ (∀ k, k ≠ 97 → σ'.2.2.2 k = σ.2.2.2 k)
/-- codes cs of text w, as they stand -/
def CdO (σ : MS) (w : Nat) (cs : List Nat) : Prop := ∃ b, b + cs.length ≤ 1600 ∧ σ.2.2.1 48 (3 + w) = nI b ∧ σ.2.2.1 49 (3 + w) = nI (b + cs.length) ∧ (∀ i, i < cs.length → σ.2.2.1 50 (1600 + (b + i)) = nI (cs.getD i 0))
def okc (al : Nat → Prop) (cs : List Nat) : Prop := ∀ c, c ∈ cs → c < 12000 ∧ (1 ≤ c ∧ c ≤ 13 ∨ (40 ≤ c ∧ c < 48 ∧ al (c - 40)) ∨ 1000 ≤ c)
theorem codesTell_ok {f w : Nat} {al : Nat → Prop} (hw : w < 3) (C : CdO σ w cs) (O : okc al cs) (hv : CV ev fo cs v) (hp : ∀ σ', QF3 σ σ' → ∀ j, al j → j < 8 → fX6_qPartOf σ' (nI j) (nI f) = some (ev j)) : ∃ σ', fX6_codesTell σ (nI w) (nI f) = some (σ', v) ∧ QF3 σ σ' := by
  obtain ⟨b, b1, b2, b3, b4⟩ := C
  have P : PL (sI (sI σ 53 (nI w)) 98 0) [] := ⟨by rw [sI_s]; rfl, fun i hi => absurd hi (by simp)⟩
  obtain ⟨σ', e1, e2, e3⟩ := ct_run (ev := ev) (fo := fo) (f := f) hw (sI (sI σ 53 (nI w)) 98 0) cs [] [v] b _ FU (FU_lt (by omega)) b1 (by simp; omega) (QF.refl _) P (hv []) b3 b4 (fun c hc => by
    obtain ⟨h1, h2⟩ := O c hc
    exact ⟨h1, by omega⟩) (fun σ' h j hj hj2 => by
    obtain ⟨h1, h2⟩ := O _ hj
    rcases h2 with h2 | ⟨h2, h3, h4⟩ | h2
    · omega
    · refine hp σ' ⟨h.1, h.2.1, fun k k1 k2 => ?_, h.2.2.2⟩ j (by simpa using h4) (by omega)
      rw [h.2.2.1 k k1, sI_n k1, sI_n k2]
    · omega)
  refine ⟨σ', ?_, e3.1, e3.2.1, fun k k1 k2 => by rw [e3.2.2.1 k k1, sI_n k1, sI_n k2], e3.2.2.2⟩
  have g1 : aI (sI (sI σ 53 (nI w)) 98 0) 48 (3 + nI w) = some (nI b) := by
    rw [ki3, nI_add, aI_sI, aI_sI, tg48 (by omega), b2]
  obtain ⟨p1, p2⟩ := PL_one e2
  have g2 : aL σ' 97 0 = some v := by
    rw [show (0 : Int32) = nI 0 from rfl, tg97 (by omega)]
    exact congrArg some p2
  simp only [fX6_codesTell, g1, bsm]
  rw [e1, g2]
  rfl
end PCD

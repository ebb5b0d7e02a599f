/-! PARSER, the pure one: (kind, place) of what is wrong, or (where it ends, codes) -/
set_option maxRecDepth 100000
abbrev PRes := (Nat × Nat) ⊕ (Nat × List Nat)
def pb (x : PRes) (f : Nat → List Nat → PRes) : PRes := match x with
  | .inl e => .inl e
  | .inr (p, cs) => f p cs
/-- the words of sums, by mode -/
def askL : List (List Nat) := [wdL 83, wdL 84, wdL 85, wdL 86, wdL 87, wdL 88, wdL 89, wdL 90]
abbrev alw (m j : Nat) : Prop := m = 0 ∧ j < 3 ∨ m = 1 ∧ j < 2 ∨ m = 2 ∧ (j = 0 ∨ 3 ≤ j ∧ j ≤ 5) ∨ 3 ≤ m ∧ (j = 0 ∨ 3 ≤ j)
section PPU
variable (B : Nat → Nat) (L m : Nat)
/-- a sign must stand at p -/
def mustP (p c : Nat) (f : Nat → PRes) : PRes := if SI B L (sk B L p) c then f (sk B L p + 1) else .inl (1, sk B L p)
/-- one more may be open -/
def openP (d x : Nat) (r : PRes) : PRes := if d = 6 then .inl (4, x) else r
/-- rs t d p: t = 0 a sum, 1 an atom, 2 a test, 3 a fact; at depth d, from p on -/
def withinP (rs : Nat → Nat → Nat → PRes) (k d p : Nat) : PRes :=
  if SI B L (sk B L p) 40 then openP d (sk B L p) (pb (rs 0 (d + 1) (sk B L p + 1)) fun p1 c1 =>
    if k = 0 then mustP B L p1 41 fun p2 => .inr (p2, c1)
    else mustP B L p1 44 fun p2 => pb (rs 0 (d + 1) p2) fun p3 c2 => mustP B L p3 41 fun p4 => .inr (p4, c1 ++ c2 ++ [k + 4]))
  else .inl (1, sk B L p)
def atomP (rs : Nat → Nat → Nat → PRes) (d p : Nat) : PRes :=
  if SI B L (sk B L p) 40 then withinP B L rs 0 d p
  else if DIa B L (sk B L p) then (match nu B L 0 9999 p with | .inl e => .inl e | .inr (r, v) => .inr (r, [1000 + v]))
  else if LEa B L (sk B L p) ∧ ¬ PT B (sk B L p) then
    (match fd B (sk B L p) (we B L (sk B L p)) askL with
    | some j => if alw m j then .inr (we B L (sk B L p), [40 + j]) else if m = 3 ∧ j = 2 then openP d (sk B L p) (pb (rs 1 (d + 1) (we B L (sk B L p))) fun p1 c1 => .inr (p1, c1 ++ [60])) else .inl (1, sk B L p)
    | none => if WQ B (sk B L p) (we B L (sk B L p)) (wdL 81) then withinP B L rs 1 d (we B L (sk B L p)) else if WQ B (sk B L p) (we B L (sk B L p)) (wdL 82) then withinP B L rs 2 d (we B L (sk B L p)) else .inl (1, sk B L p))
  else .inl (1, sk B L p)
/-- a chain: one, then signs x, y and more of them (codes k, k + 1) -/
def chainP (one : Nat → PRes) (x y k : Nat) : Nat → Nat → List Nat → PRes
  | 0, p, cs => .inr (p, cs)
  | n + 1, p, cs =>
    if SI B L (sk B L p) x then pb (one (sk B L p + 1)) fun p1 c1 => chainP one x y k n p1 (cs ++ c1 ++ [k])
    else if SI B L (sk B L p) y then pb (one (sk B L p + 1)) fun p1 c1 => chainP one x y k n p1 (cs ++ c1 ++ [k + 1])
    else .inr (sk B L p, cs)
def prodP (rs : Nat → Nat → Nat → PRes) (d p : Nat) : PRes := pb (atomP B L m rs d p) fun p1 c1 => chainP B L (atomP B L m rs d) 42 47 3 (L - p1) p1 c1
def sumP (rs : Nat → Nat → Nat → PRes) (d p : Nat) : PRes := pb (prodP B L m rs d p) fun p1 c1 => chainP B L (prodP B L m rs d) 43 45 1 (L - p1) p1 c1
def thanP (rs : Nat → Nat → Nat → PRes) (d p : Nat) : PRes := pb (sumP B L m rs d p) fun p1 c1 =>
  if SI B L (sk B L p1) 60 then pb (sumP B L m rs d (sk B L p1 + 1)) fun p2 c2 => .inr (p2, c1 ++ c2 ++ [7])
  else if SI B L (sk B L p1) 62 then pb (sumP B L m rs d (sk B L p1 + 1)) fun p2 c2 => .inr (p2, c1 ++ c2 ++ [8])
  else if SI B L (sk B L p1) 61 then pb (sumP B L m rs d (sk B L p1 + 1)) fun p2 c2 => .inr (p2, c1 ++ c2 ++ [9])
  else .inl (1, sk B L p1)
def factP (rs : Nat → Nat → Nat → PRes) (d p : Nat) : PRes :=
  if SI B L (sk B L p) 91 then openP d (sk B L p) (pb (rs 2 (d + 1) (sk B L p + 1)) fun p1 c1 => mustP B L p1 93 fun p2 => .inr (p2, c1))
  else if LEa B L (sk B L p) ∧ PT B (sk B L p) then .inl (1, sk B L p)
  else if HW B L (sk B L p) (wdL 77) then openP d (sk B L p) (pb (rs 3 (d + 1) (we B L (sk B L p))) fun p1 c1 => .inr (p1, c1 ++ [12]))
  else if HW B L (sk B L p) (wdL 80) then .inr (we B L (sk B L p), [13])
  else thanP B L m rs d p
/-- facts joined by a word (code k) -/
def joinP (one : Nat → PRes) (w k : Nat) : Nat → Nat → List Nat → PRes
  | 0, p, cs => .inr (p, cs)
  | n + 1, p, cs =>
    if LEa B L (sk B L p) ∧ PT B (sk B L p) then .inl (1, sk B L p)
    else if HW B L (sk B L p) (wdL w) then pb (one (we B L (sk B L p))) fun p1 c1 => joinP one w k n p1 (cs ++ c1 ++ [k])
    else .inr (if LEa B L (sk B L p) then p else sk B L p, cs)
def bothP (rs : Nat → Nat → Nat → PRes) (d p : Nat) : PRes := pb (factP B L m rs d p) fun p1 c1 => joinP B L (factP B L m rs d) 78 10 (L - p1 + 1) p1 c1
def testP (rs : Nat → Nat → Nat → PRes) (d p : Nat) : PRes := pb (bothP B L m rs d p) fun p1 c1 => joinP B L (bothP B L m rs d) 79 11 (L - p1 + 1) p1 c1
def psD : Nat → Nat → Nat → Nat → PRes
  | 0, _, _, p => .inl (0, p)
  | n + 1, 0, d, p => sumP B L m (psD n) d p
  | n + 1, 1, d, p => atomP B L m (psD n) d p
  | n + 1, 2, d, p => testP B L m (psD n) d p
  | n + 1, _, d, p => factP B L m (psD n) d p
end PPU

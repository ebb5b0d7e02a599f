set_option maxRecDepth 100000
def PS0 (K : KE) (a : Nat) (Inv : HS → MS → Nat → Prop) : Prop := ∀ (h : HS) (σ : MS) (n : Nat) (x1 x2 x3 x4 x5 : Int32), n < 64 → Inv h σ n → ∃ (h' : HS) (σ' : MS) (v : Int32), fX0_feed K h a x1 x2 x3 x4 x5 = some (h', v) ∧ fX6_feed σ x1 x2 x3 x4 x5 = some (σ', v) ∧ Inv h' σ' (n + 1)
def PS1 (K : KE) (a : Nat) (Inv : HS → MS → Nat → Prop) : Prop := ∀ (h : HS) (σ : MS) (n : Nat) (x1 : Int32), n < 64 → Inv h σ n → ∃ (h' : HS) (σ' : MS) (v : Int32), fX0_end K h a x1 = some (h', v) ∧ fX6_end σ x1 = some (σ', v) ∧ Inv h' σ' (n + 1)
def PS2 (K : KE) (a : Nat) (Inv : HS → MS → Nat → Prop) : Prop := ∀ (h : HS) (σ : MS) (n : Nat), n < 64 → Inv h σ n → (∀ (y : Nat) (e : HE), h.1 y = some e → y < h.2.1) → ∃ (h' : HS) (σ' : MS) (v : Int32), fX0_house K h a = some (h', v) ∧ fX6_house σ = some (σ', v) ∧ Inv h' σ' (n + 1)
def PS3 (K : KE) (a : Nat) (Inv : HS → MS → Nat → Prop) : Prop := ∀ (h : HS) (σ : MS) (n : Nat) (x1 : Int32), n < 64 → Inv h σ n → ∃ (v : Int32), fX0_fault K h a x1 = some v ∧ fX6_fault σ x1 = some v ∧ Inv h σ (n + 1)
def PS4 (K : KE) (a : Nat) (Inv : HS → MS → Nat → Prop) : Prop := ∀ (h : HS) (σ : MS) (n : Nat) (x1 : Int32), n < 64 → Inv h σ n → ∃ (v : Int32), fX0_has_2 K h a x1 = some v ∧ fX6_has σ x1 = some v ∧ Inv h σ (n + 1)
def PS5 (K : KE) (a : Nat) (Inv : HS → MS → Nat → Prop) : Prop := ∀ (h : HS) (σ : MS) (n : Nat) (x1 x2 x3 : Int32), n < 64 → Inv h σ n → ∃ (v : Int32), fX0_letter K h a x1 x2 x3 = some v ∧ fX6_letter σ x1 x2 x3 = some v ∧ Inv h σ (n + 1)
def PS6 (K : KE) (a : Nat) (Inv : HS → MS → Nat → Prop) : Prop := ∀ (h : HS) (σ : MS) (n : Nat) (x1 x2 : Int32), n < 64 → Inv h σ n → ∃ (v : Int32), fX0_film K h a x1 x2 = some v ∧ fX6_film σ x1 x2 = some v ∧ Inv h σ (n + 1)
def PS7 (K : KE) (a : Nat) (Inv : HS → MS → Nat → Prop) : Prop := ∀ (h : HS) (σ : MS) (n : Nat) (x1 x2 : Int32), n < 64 → Inv h σ n → ∃ (v : Int32), fX0_person K h a x1 x2 = some v ∧ fX6_person σ x1 x2 = some v ∧ Inv h σ (n + 1)
def PS8 (K : KE) (a : Nat) (Inv : HS → MS → Nat → Prop) : Prop := ∀ (h : HS) (σ : MS) (n : Nat) (x1 x2 : Int32), n < 64 → Inv h σ n → ∃ (v : Int32), fX0_taste K h a x1 x2 = some v ∧ fX6_taste σ x1 x2 = some v ∧ Inv h σ (n + 1)
def PS9 (K : KE) (a : Nat) (Inv : HS → MS → Nat → Prop) : Prop := ∀ (h : HS) (σ : MS) (n : Nat) (x1 x2 : Int32), n < 64 → Inv h σ n → ∃ (v : Int32), fX0_seen K h a x1 x2 = some v ∧ fX6_seen σ x1 x2 = some v ∧ Inv h σ (n + 1)
def PS10 (K : KE) (a : Nat) (Inv : HS → MS → Nat → Prop) : Prop := ∀ (h : HS) (σ : MS) (n : Nat) (x1 : Int32), n < 64 → Inv h σ n → ∃ (h' : HS) (σ' : MS) (v : Int32), fX0_suggest K h a x1 = some (h', v) ∧ fX6_suggest σ x1 = some (σ', v) ∧ Inv h' σ' (n + 1)
def PS11 (K : KE) (a : Nat) (Inv : HS → MS → Nat → Prop) : Prop := ∀ (h : HS) (σ : MS) (n : Nat) (x1 x2 : Int32), n < 64 → Inv h σ n → ∃ (v : Int32), fX0_worth K h a x1 x2 = some v ∧ fX6_worth σ x1 x2 = some v ∧ Inv h σ (n + 1)
def PS12 (K : KE) (a : Nat) (Inv : HS → MS → Nat → Prop) : Prop := ∀ (h : HS) (σ : MS) (n : Nat) (x1 x2 : Int32), n < 64 → Inv h σ n → ∃ (v : Int32), fX0_kept K h a x1 x2 = some v ∧ fX6_kept σ x1 x2 = some v ∧ Inv h σ (n + 1)
def PS13 (K : KE) (a : Nat) (Inv : HS → MS → Nat → Prop) : Prop := ∀ (h : HS) (σ : MS) (n : Nat) (x1 x2 : Int32), n < 64 → Inv h σ n → ∃ (h' : HS) (σ' : MS) (v : Int64), fX0_pleased K h a x1 x2 = some (h', v) ∧ fX6_pleased σ x1 x2 = some (σ', v) ∧ Inv h' σ' (n + 1)
def PS14 (K : KE) (a : Nat) (Inv : HS → MS → Nat → Prop) : Prop := ∀ (h : HS) (σ : MS) (n : Nat) (x1 x2 : Int32), n < 64 → Inv h σ n → ∃ (h' : HS) (σ' : MS) (v : Int32), fX0_refused K h a x1 x2 = some (h', v) ∧ fX6_refused σ x1 x2 = some (σ', v) ∧ Inv h' σ' (n + 1)
def PS15 (K : KE) (a : Nat) (Inv : HS → MS → Nat → Prop) : Prop := ∀ (h : HS) (σ : MS) (n : Nat) (x1 x2 : Int32), n < 64 → Inv h σ n → ∃ (h' : HS) (σ' : MS) (v : Int64), fX0_pressing K h a x1 x2 = some (h', v) ∧ fX6_pressing σ x1 x2 = some (σ', v) ∧ Inv h' σ' (n + 1)
def PS16 (K : KE) (a : Nat) (Inv : HS → MS → Nat → Prop) : Prop := ∀ (h : HS) (σ : MS) (n : Nat) (x1 : Int32), n < 64 → Inv h σ n → ∃ (h' : HS) (σ' : MS) (v : Int32), fX0_rest K h a x1 = some (h', v) ∧ fX6_rest σ x1 = some (σ', v) ∧ Inv h' σ' (n + 1)
def PS17 (K : KE) (a : Nat) (Inv : HS → MS → Nat → Prop) : Prop := ∀ (h : HS) (σ : MS) (n : Nat) (x1 x2 : Int32), n < 64 → Inv h σ n → ∃ (h' : HS) (σ' : MS) (v : Int32), fX0_gone K h a x1 x2 = some (h', v) ∧ fX6_gone σ x1 x2 = some (σ', v) ∧ Inv h' σ' (n + 1)
def PS18 (K : KE) (a : Nat) (Inv : HS → MS → Nat → Prop) : Prop := ∀ (h : HS) (σ : MS) (n : Nat) (x1 x2 : Int32), n < 64 → Inv h σ n → ∃ (h' : HS) (σ' : MS) (v : Int32), fX0_sow K h a x1 x2 = some (h', v) ∧ fX6_sow σ x1 x2 = some (σ', v) ∧ Inv h' σ' (n + 1)
def PS19 (K : KE) (a : Nat) (Inv : HS → MS → Nat → Prop) : Prop := ∀ (h : HS) (σ : MS) (n : Nat) (x1 x2 x3 : Int32), n < 64 → Inv h σ n → ∃ (v : Int32), fX0_who K h a x1 x2 x3 = some v ∧ fX6_who σ x1 x2 x3 = some v ∧ Inv h σ (n + 1)
def PS20 (K : KE) (a : Nat) (Inv : HS → MS → Nat → Prop) : Prop := ∀ (h : HS) (σ : MS) (n : Nat) (x1 x2 : Int32), n < 64 → Inv h σ n → ∃ (v : Int32), fX0_sofa K h a x1 x2 = some v ∧ fX6_sofa σ x1 x2 = some v ∧ Inv h σ (n + 1)
def PS21 (K : KE) (a : Nat) (Inv : HS → MS → Nat → Prop) : Prop := ∀ (h : HS) (σ : MS) (n : Nat) (x1 : Int32), n < 64 → Inv h σ n → ∃ (v : Int32), fX0_share K h a x1 = some v ∧ fX6_share σ x1 = some v ∧ Inv h σ (n + 1)
def PS22 (K : KE) (a : Nat) (Inv : HS → MS → Nat → Prop) : Prop := ∀ (h : HS) (σ : MS) (n : Nat), n < 64 → Inv h σ n → ∃ (h' : HS) (σ' : MS) (v : Int32), fX0_tell K h a = some (h', v) ∧ fX6_tell σ = some (σ', v) ∧ Inv h' σ' (n + 1)
def PS23 (K : KE) (a : Nat) (Inv : HS → MS → Nat → Prop) : Prop := ∀ (h : HS) (σ : MS) (n : Nat) (x1 : Int32), n < 64 → Inv h σ n → ∃ (h' : HS) (σ' : MS) (v : Int32), fX0_pressed K h a x1 = some (h', v) ∧ fX6_pressed σ x1 = some (σ', v) ∧ Inv h' σ' (n + 1)
def PS24 (K : KE) (a : Nat) (Inv : HS → MS → Nat → Prop) : Prop := ∀ (h : HS) (σ : MS) (n : Nat) (x1 x2 : Int32), n < 64 → Inv h σ n → ∃ (h' : HS) (σ' : MS) (v : Int32), fX0_press K h a x1 x2 = some (h', v) ∧ fX6_press σ x1 x2 = some (σ', v) ∧ Inv h' σ' (n + 1)
def PS25 (K : KE) (a : Nat) (Inv : HS → MS → Nat → Prop) : Prop := ∀ (h : HS) (σ : MS) (n : Nat) (x1 x2 : Int32), n < 64 → Inv h σ n → ∃ (h' : HS) (σ' : MS) (v : Int64), fX0_show K h a x1 x2 = some (h', v) ∧ fX6_show σ x1 x2 = some (σ', v) ∧ Inv h' σ' (n + 1)
def PS26 (K : KE) (a : Nat) (Inv : HS → MS → Nat → Prop) : Prop := ∀ (h : HS) (σ : MS) (n : Nat) (x1 : Int32), n < 64 → Inv h σ n → ∃ (h' : HS) (σ' : MS) (v : Int32), fX0_hours K h a x1 = some (h', v) ∧ fX6_hours σ x1 = some (σ', v) ∧ Inv h' σ' (n + 1)
def PS27 (K : KE) (a : Nat) (Inv : HS → MS → Nat → Prop) : Prop := ∀ (h : HS) (σ : MS) (n : Nat) (x1 : Int32), n < 64 → Inv h σ n → ∃ (h' : HS) (σ' : MS) (v : Int32), fX0_chance K h a x1 = some (h', v) ∧ fX6_chance σ x1 = some (σ', v) ∧ Inv h' σ' (n + 1)
def PS28 (K : KE) (a : Nat) (Inv : HS → MS → Nat → Prop) : Prop := ∀ (h : HS) (σ : MS) (n : Nat), n < 64 → Inv h σ n → ∃ (h' : HS) (σ' : MS) (v : Int32), fX0_undo K h a = some (h', v) ∧ fX6_undo σ = some (σ', v) ∧ Inv h' σ' (n + 1)
def PS29 (K : KE) (a : Nat) (Inv : HS → MS → Nat → Prop) : Prop := ∀ (h : HS) (σ : MS) (n : Nat) (x1 : Int32), n < 64 → Inv h σ n → ∃ (h' : HS) (σ' : MS) (v : Int32), fX0_seed K h a x1 = some (h', v) ∧ fX6_seed σ x1 = some (σ', v) ∧ Inv h' σ' (n + 1)
def PS30 (K : KE) (a : Nat) (Inv : HS → MS → Nat → Prop) : Prop := ∀ (h : HS) (σ : MS) (n : Nat) (x1 : Int32), n < 64 → Inv h σ n → (∀ (y : Nat) (e : HE), h.1 y = some e → y < h.2.1) → ∃ (h' : HS) (σ' : MS) (v : Int64), fX0_ask K h a x1 = some (h', v) ∧ fX6_ask σ x1 = some (σ', v) ∧ Inv h' σ' (n + 1)
def PS31 (K : KE) (a : Nat) (Inv : HS → MS → Nat → Prop) : Prop := ∀ (h : HS) (σ : MS) (n : Nat), n < 64 → Inv h σ n → ∃ (h' : HS) (σ' : MS) (v : Int32), fX0_image K h a = some (h', v) ∧ fX6_image σ = some (σ', v) ∧ Inv h' σ' (n + 1)
def PS32 (K : KE) (a : Nat) (Inv : HS → MS → Nat → Prop) : Prop := ∀ (h : HS) (σ : MS) (n : Nat) (x1 : Int32), n < 64 → Inv h σ n → ∃ (v : Int32), fX0_octet K h a x1 = some v ∧ fX6_octet σ x1 = some v ∧ Inv h σ (n + 1)
def PS33 (K : KE) (a : Nat) (Inv : HS → MS → Nat → Prop) : Prop := ∀ (h : HS) (σ : MS) (n : Nat), n < 64 → Inv h σ n → ∃ (h' : HS) (σ' : MS) (v : Int32), fX0_on K h a = some (h', v) ∧ fX6_on σ = some (σ', v) ∧ Inv h' σ' (n + 1)
def PS34 (K : KE) (a : Nat) (Inv : HS → MS → Nat → Prop) : Prop := ∀ (h : HS) (σ : MS) (n : Nat) (x1 : Int32), n < 64 → Inv h σ n → ∃ (v : Int32), fX0_status K h a x1 = some v ∧ fX6_status σ x1 = some v ∧ Inv h σ (n + 1)
theorem l_cmp : ∀ L, L < 385 → (Int32.ofNat L - 6).toInt = (L : Int) - 6 := by decide +kernel
set_option maxHeartbeats 4000000 in
theorem law_head {p : Program} {l : Launch} {e : Env} {s : State} {m : MethodId} {below : List Frame} {meth : Method} {c : Code} {D : va_G} {ac : Nat → ClassId} {K : KE} {G : mG} {A0 A2 : Nat → Prop} {a b bb L : Nat} {xs : Nat → Int32} (C : LX p s m c D ac K G A0 A2 b bb L xs) (hr : meth.sig.returnType = ret) (hlk : meth.locks = false) (hA0 : ∀ q, A0 q → s.heap.size ≤ q) {i : Nat} (hi : i ≤ 384) {H : Heap} {locs : List Loc} (hS : va_S A0 s.heap H locs) {ls : Array Slot} (hl : lv_has ls 4 [(0, .ref b), (1, .ref a), (2, .ref bb), (3, .int (nI i))]) (kk : i + 6 ≤ L → W p l e room_1 s m #[Value.ref b] below meth c H locs room_1.cells room_1.slots (lw_Z below #[Value.ref b] s) (F0 m 27 ls [])) : W p l e room_1 s m #[Value.ref b] below meth c H locs room_1.cells room_1.slots (lw_Z below #[Value.ref b] s) (F0 m 18 ls []) := by
  obtain ⟨S, hG, hK, hRM, ⟨hX, hbl, hbA, hL⟩, hA, hB, hKo⟩ := C
  obtain ⟨hx, hb, hml, hown, hts⟩ := id S
  refine lv_iload_n hx hb dL_law_18 rfl (lv_at hl 3 rfl) ?_
  refine lv_aload_n hx hb dL_law_19 rfl (lv_at hl 0 rfl) ?_
  refine va_slen hx hb hX hbl hbA hS dL_law_20 ?_
  refine lv_bipush (v := (6 : Int32)) hx hb dL_law_21 (by decide) ?_
  refine lv_isub hx hb dL_law_23 ?_
  have e1 := l_cmp L (by omega)
  have e2 := nI_toInt (n := i) (by omega)
  refine lv_icmp_gt (tgt := 1173) hx hb dL_law_24 (by decide) (fun g => ?_) (fun g => ?_)
  · refine lv_iconst (v := (1 : Int32)) hx hb dL_law_1173 (by decide) ?_
    refine va_forget (fun q hq => hA0 _ (hS.2.2 q hq)) ?_
    exact lw_ret hx hb hr hlk dL_law_1174
  · refine kk ?_
    have g2 : ¬ (Int32.ofNat L - 6 < nI i) := g
    rw [Int32.lt_iff_toInt_lt, e1, e2] at g2
    omega
set_option maxHeartbeats 4000000 in
theorem law_loop {p : Program} {l : Launch} {e : Env} {s : State} {m : MethodId} {below : List Frame} {meth : Method} {c : Code} {D : va_G} {ac : Nat → ClassId} {K : KE} {G : mG} {A0 A2 : Nat → Prop} {a b bb L : Nat} {xs : Nat → Int32} (C : LX p s m c D ac K G A0 A2 b bb L xs) (hr : meth.sig.returnType = ret) (hlk : meth.locks = false) (hA0 : ∀ q, A0 q → s.heap.size ≤ q) {Inv : HS → MS → Nat → Prop} (I0 : ∀ h σ n, Inv h σ n → ∃ fs, rd K h a = some (.inr (0, fs))) (I1 : ∀ h σ n k, Inv h σ n → k ≤ h.2.2 → Inv (h.1, h.2.1, k) σ n) (I2 : ∀ h σ n, Inv h σ n → Inv h σ (n + 1)) (P0 : PS0 K a Inv) (P1 : PS1 K a Inv) (P2 : PS2 K a Inv) (P3 : PS3 K a Inv) (P4 : PS4 K a Inv) (P5 : PS5 K a Inv) (P6 : PS6 K a Inv) (P7 : PS7 K a Inv) (P8 : PS8 K a Inv) (P9 : PS9 K a Inv) (P10 : PS10 K a Inv) (P11 : PS11 K a Inv) (P12 : PS12 K a Inv) (P13 : PS13 K a Inv) (P14 : PS14 K a Inv) (P15 : PS15 K a Inv) (P16 : PS16 K a Inv) (P17 : PS17 K a Inv) (P18 : PS18 K a Inv) (P19 : PS19 K a Inv) (P20 : PS20 K a Inv) (P21 : PS21 K a Inv) (P22 : PS22 K a Inv) (P23 : PS23 K a Inv) (P24 : PS24 K a Inv) (P25 : PS25 K a Inv) (P26 : PS26 K a Inv) (P27 : PS27 K a Inv) (P28 : PS28 K a Inv) (P29 : PS29 K a Inv) (P30 : PS30 K a Inv) (P31 : PS31 K a Inv) (P32 : PS32 K a Inv) (P33 : PS33 K a Inv) (P34 : PS34 K a Inv) : ∀ (t n : Nat), L < 6 * n + 6 * t → n ≤ 64 → ∀ (h : HS) (σ : MS), Inv h σ n → ∀ (H : Heap) (locs : List Loc), HR A2 D ac K h H → MW G bb σ H → va_S A0 s.heap H locs → bb + 1 + mNA ≤ H.size → ∀ ls : Array Slot, lv_has ls 4 [(0, .ref b), (1, .ref a), (2, .ref bb), (3, .int (nI (6 * n)))] → W p l e room_1 s m #[Value.ref b] below meth c H locs room_1.cells room_1.slots (lw_Z below #[Value.ref b] s) (F0 m 18 ls []) := by
  intro t
  induction t with
  | zero =>
    intro n hn hn64 h σ hI H locs hH hM hS hz ls hl
    exact law_head C hr hlk hA0 (by omega) hS hl (fun q => by omega)
  | succ t ih =>
    intro n hn hn64 h σ hI H locs hH hM hS hz ls hl
    refine law_head C hr hlk hA0 (by omega) hS hl (fun hi => ?_)
    obtain ⟨S, hG, hK, hRM, ⟨hX, hbl, hbA, hL⟩, hA, hB, hKo⟩ := id C
    obtain ⟨hx, hb, hml, hown, hts⟩ := id S
    have ho := I0 h σ n hI
    have hn6 : n < 64 := by omega
    have hFr : ∀ (y : Nat) (e : HE), h.1 y = some e → y < h.2.1 := fun y e q => by
      have w := (hH.1 y e q).2.lt
      rw [hH.2.2.2.1] at w
      exact w
    have kk : ∀ (h' : HS) (σ' : MS), Inv h' σ' (n + 1) → ∀ (H1 : Heap) (locs1 : List Loc) (k : Nat), k ≤ h'.2.2 → HR A2 D ac K (h'.1, h'.2.1, k) H1 → MW G bb σ' H1 → bb + 1 + mNA ≤ H1.size → va_S A0 s.heap H1 locs1 → W p l e room_1 s m #[Value.ref b] below meth c H1 locs1 room_1.cells room_1.slots (lw_Z below #[Value.ref b] s) (F0 m 1167 ls []) := by
      intro h' σ' hI' H1 locs1 k hk hH1 hM1 hz1 hS1
      refine lv_iinc (lv' := [(3, .int (nI (6 * (n + 1)))), (0, .ref b), (1, .ref a), (2, .ref bb)]) hx hb dL_law_1167 hl (k := 3) rfl (v := nI (6 * (n + 1))) (nI_add (6 * n) 6) (by decide) rfl (fun ls hl => ?_)
      refine lv_goto (tgt := 18) hx hb dL_law_1170 (by decide) ?_
      exact ih (n + 1) (by omega) (by omega) _ _ (I1 _ _ _ _ hI' hk) _ _ hH1 hM1 hS1 hz1 _ (lv_sub hl [1, 2, 3, 0] rfl)
    refine lv_aload_n hx hb dL_law_27 rfl (lv_at hl 0 rfl) ?_
    refine lv_iload_n hx hb dL_law_28 rfl (lv_at hl 3 rfl) ?_
    refine va_sld hx hb hX hbl hbA hS (nI_in (by omega) (by omega)) dL_law_29 ?_
    refine lv_bipush (v := (63 : Int32)) hx hb dL_law_30 (by decide) ?_
    refine lv_iand hx hb dL_law_32 ?_
    generalize (xs (nI (6 * n)).toNatClampNeg &&& 63) = y
    by_cases h0 : y = 0
    · obtain ⟨h', σ', v, z1, z2, hI'⟩ := P0 h σ n (xs (6 * n + 1)) (xs (6 * n + 2)) (xs (6 * n + 3)) (xs (6 * n + 4)) (xs (6 * n + 5)) hn6 hI
      refine lv_tableIn (off := 155) (tgt := 188) hx hb dL_law_33 (by rw [h0]; decide) (by rw [h0]; decide) (by rw [h0]; rfl) (by decide) ?_
      exact law_c0 C ho hi z1 z2 hH hM hS hz hl (kk _ _ hI')
    by_cases h1 : y = 1
    · obtain ⟨h', σ', v, z1, z2, hI'⟩ := P1 h σ n (xs (6 * n + 1)) hn6 hI
      refine lv_tableIn (off := 218) (tgt := 251) hx hb dL_law_33 (by rw [h1]; decide) (by rw [h1]; decide) (by rw [h1]; rfl) (by decide) ?_
      exact law_c1 C ho hi z1 z2 hH hM hS hz hl (kk _ _ hI')
    by_cases h2 : y = 2
    · obtain ⟨h', σ', v, z1, z2, hI'⟩ := P2 h σ n hn6 hI hFr
      refine lv_tableIn (off := 241) (tgt := 274) hx hb dL_law_33 (by rw [h2]; decide) (by rw [h2]; decide) (by rw [h2]; rfl) (by decide) ?_
      exact law_c2 C ho hi z1 z2 hH hM hS hz hl (kk _ _ hI')
    by_cases h3 : y = 3
    · obtain ⟨v, z1, z2, hI'⟩ := P3 h σ n (xs (6 * n + 1)) hn6 hI
      refine lv_tableIn (off := 254) (tgt := 287) hx hb dL_law_33 (by rw [h3]; decide) (by rw [h3]; decide) (by rw [h3]; rfl) (by decide) ?_
      exact law_c3 C ho hi z1 z2 hH hM hS hz hl (kk _ _ hI')
    by_cases h4 : y = 4
    · obtain ⟨v, z1, z2, hI'⟩ := P4 h σ n (xs (6 * n + 1)) hn6 hI
      refine lv_tableIn (off := 277) (tgt := 310) hx hb dL_law_33 (by rw [h4]; decide) (by rw [h4]; decide) (by rw [h4]; rfl) (by decide) ?_
      exact law_c4 C ho hi z1 z2 hH hM hS hz hl (kk _ _ hI')
    by_cases h5 : y = 5
    · obtain ⟨v, z1, z2, hI'⟩ := P5 h σ n (xs (6 * n + 1)) (xs (6 * n + 2)) (xs (6 * n + 3)) hn6 hI
      refine lv_tableIn (off := 300) (tgt := 333) hx hb dL_law_33 (by rw [h5]; decide) (by rw [h5]; decide) (by rw [h5]; rfl) (by decide) ?_
      exact law_c5 C ho hi z1 z2 hH hM hS hz hl (kk _ _ hI')
    by_cases h6 : y = 6
    · obtain ⟨v, z1, z2, hI'⟩ := P6 h σ n (xs (6 * n + 1)) (xs (6 * n + 2)) hn6 hI
      refine lv_tableIn (off := 343) (tgt := 376) hx hb dL_law_33 (by rw [h6]; decide) (by rw [h6]; decide) (by rw [h6]; rfl) (by decide) ?_
      exact law_c6 C ho hi z1 z2 hH hM hS hz hl (kk _ _ hI')
    by_cases h7 : y = 7
    · obtain ⟨v, z1, z2, hI'⟩ := P7 h σ n (xs (6 * n + 1)) (xs (6 * n + 2)) hn6 hI
      refine lv_tableIn (off := 376) (tgt := 409) hx hb dL_law_33 (by rw [h7]; decide) (by rw [h7]; decide) (by rw [h7]; rfl) (by decide) ?_
      exact law_c7 C ho hi z1 z2 hH hM hS hz hl (kk _ _ hI')
    by_cases h8 : y = 8
    · obtain ⟨v, z1, z2, hI'⟩ := P8 h σ n (xs (6 * n + 1)) (xs (6 * n + 2)) hn6 hI
      refine lv_tableIn (off := 409) (tgt := 442) hx hb dL_law_33 (by rw [h8]; decide) (by rw [h8]; decide) (by rw [h8]; rfl) (by decide) ?_
      exact law_c8 C ho hi z1 z2 hH hM hS hz hl (kk _ _ hI')
    by_cases h9 : y = 9
    · obtain ⟨v, z1, z2, hI'⟩ := P9 h σ n (xs (6 * n + 1)) (xs (6 * n + 2)) hn6 hI
      refine lv_tableIn (off := 442) (tgt := 475) hx hb dL_law_33 (by rw [h9]; decide) (by rw [h9]; decide) (by rw [h9]; rfl) (by decide) ?_
      exact law_c9 C ho hi z1 z2 hH hM hS hz hl (kk _ _ hI')
    by_cases h10 : y = 10
    · obtain ⟨h', σ', v, z1, z2, hI'⟩ := P10 h σ n (xs (6 * n + 1)) hn6 hI
      refine lv_tableIn (off := 475) (tgt := 508) hx hb dL_law_33 (by rw [h10]; decide) (by rw [h10]; decide) (by rw [h10]; rfl) (by decide) ?_
      exact law_c10 C ho hi z1 z2 hH hM hS hz hl (kk _ _ hI')
    by_cases h11 : y = 11
    · obtain ⟨v, z1, z2, hI'⟩ := P11 h σ n (xs (6 * n + 1)) (xs (6 * n + 2)) hn6 hI
      refine lv_tableIn (off := 498) (tgt := 531) hx hb dL_law_33 (by rw [h11]; decide) (by rw [h11]; decide) (by rw [h11]; rfl) (by decide) ?_
      exact law_c11 C ho hi z1 z2 hH hM hS hz hl (kk _ _ hI')
    by_cases h12 : y = 12
    · obtain ⟨v, z1, z2, hI'⟩ := P12 h σ n (xs (6 * n + 1)) (xs (6 * n + 2)) hn6 hI
      refine lv_tableIn (off := 531) (tgt := 564) hx hb dL_law_33 (by rw [h12]; decide) (by rw [h12]; decide) (by rw [h12]; rfl) (by decide) ?_
      exact law_c12 C ho hi z1 z2 hH hM hS hz hl (kk _ _ hI')
    by_cases h13 : y = 13
    · obtain ⟨h', σ', v, z1, z2, hI'⟩ := P13 h σ n (xs (6 * n + 1)) (xs (6 * n + 2)) hn6 hI
      refine lv_tableIn (off := 564) (tgt := 597) hx hb dL_law_33 (by rw [h13]; decide) (by rw [h13]; decide) (by rw [h13]; rfl) (by decide) ?_
      exact law_c13 C ho hi z1 z2 hH hM hS hz hl (kk _ _ hI')
    by_cases h14 : y = 14
    · obtain ⟨h', σ', v, z1, z2, hI'⟩ := P14 h σ n (xs (6 * n + 1)) (xs (6 * n + 2)) hn6 hI
      refine lv_tableIn (off := 598) (tgt := 631) hx hb dL_law_33 (by rw [h14]; decide) (by rw [h14]; decide) (by rw [h14]; rfl) (by decide) ?_
      exact law_c14 C ho hi z1 z2 hH hM hS hz hl (kk _ _ hI')
    by_cases h15 : y = 15
    · obtain ⟨h', σ', v, z1, z2, hI'⟩ := P15 h σ n (xs (6 * n + 1)) (xs (6 * n + 2)) hn6 hI
      refine lv_tableIn (off := 631) (tgt := 664) hx hb dL_law_33 (by rw [h15]; decide) (by rw [h15]; decide) (by rw [h15]; rfl) (by decide) ?_
      exact law_c15 C ho hi z1 z2 hH hM hS hz hl (kk _ _ hI')
    by_cases h16 : y = 16
    · obtain ⟨h', σ', v, z1, z2, hI'⟩ := P16 h σ n (xs (6 * n + 1)) hn6 hI
      refine lv_tableIn (off := 665) (tgt := 698) hx hb dL_law_33 (by rw [h16]; decide) (by rw [h16]; decide) (by rw [h16]; rfl) (by decide) ?_
      exact law_c16 C ho hi z1 z2 hH hM hS hz hl (kk _ _ hI')
    by_cases h17 : y = 17
    · obtain ⟨h', σ', v, z1, z2, hI'⟩ := P17 h σ n (xs (6 * n + 1)) (xs (6 * n + 2)) hn6 hI
      refine lv_tableIn (off := 688) (tgt := 721) hx hb dL_law_33 (by rw [h17]; decide) (by rw [h17]; decide) (by rw [h17]; rfl) (by decide) ?_
      exact law_c17 C ho hi z1 z2 hH hM hS hz hl (kk _ _ hI')
    by_cases h18 : y = 18
    · obtain ⟨h', σ', v, z1, z2, hI'⟩ := P18 h σ n (xs (6 * n + 1)) (xs (6 * n + 2)) hn6 hI
      refine lv_tableIn (off := 721) (tgt := 754) hx hb dL_law_33 (by rw [h18]; decide) (by rw [h18]; decide) (by rw [h18]; rfl) (by decide) ?_
      exact law_c18 C ho hi z1 z2 hH hM hS hz hl (kk _ _ hI')
    by_cases h19 : y = 19
    · obtain ⟨v, z1, z2, hI'⟩ := P19 h σ n (xs (6 * n + 1)) (xs (6 * n + 2)) (xs (6 * n + 3)) hn6 hI
      refine lv_tableIn (off := 754) (tgt := 787) hx hb dL_law_33 (by rw [h19]; decide) (by rw [h19]; decide) (by rw [h19]; rfl) (by decide) ?_
      exact law_c19 C ho hi z1 z2 hH hM hS hz hl (kk _ _ hI')
    by_cases h20 : y = 20
    · obtain ⟨v, z1, z2, hI'⟩ := P20 h σ n (xs (6 * n + 1)) (xs (6 * n + 2)) hn6 hI
      refine lv_tableIn (off := 797) (tgt := 830) hx hb dL_law_33 (by rw [h20]; decide) (by rw [h20]; decide) (by rw [h20]; rfl) (by decide) ?_
      exact law_c20 C ho hi z1 z2 hH hM hS hz hl (kk _ _ hI')
    by_cases h21 : y = 21
    · obtain ⟨v, z1, z2, hI'⟩ := P21 h σ n (xs (6 * n + 1)) hn6 hI
      refine lv_tableIn (off := 830) (tgt := 863) hx hb dL_law_33 (by rw [h21]; decide) (by rw [h21]; decide) (by rw [h21]; rfl) (by decide) ?_
      exact law_c21 C ho hi z1 z2 hH hM hS hz hl (kk _ _ hI')
    by_cases h22 : y = 22
    · obtain ⟨h', σ', v, z1, z2, hI'⟩ := P22 h σ n hn6 hI
      refine lv_tableIn (off := 853) (tgt := 886) hx hb dL_law_33 (by rw [h22]; decide) (by rw [h22]; decide) (by rw [h22]; rfl) (by decide) ?_
      exact law_c22 C ho hi z1 z2 hH hM hS hz hl (kk _ _ hI')
    by_cases h23 : y = 23
    · obtain ⟨h', σ', v, z1, z2, hI'⟩ := P23 h σ n (xs (6 * n + 1)) hn6 hI
      refine lv_tableIn (off := 866) (tgt := 899) hx hb dL_law_33 (by rw [h23]; decide) (by rw [h23]; decide) (by rw [h23]; rfl) (by decide) ?_
      exact law_c23 C ho hi z1 z2 hH hM hS hz hl (kk _ _ hI')
    by_cases h24 : y = 24
    · obtain ⟨h', σ', v, z1, z2, hI'⟩ := P24 h σ n (xs (6 * n + 1)) (xs (6 * n + 2)) hn6 hI
      refine lv_tableIn (off := 889) (tgt := 922) hx hb dL_law_33 (by rw [h24]; decide) (by rw [h24]; decide) (by rw [h24]; rfl) (by decide) ?_
      exact law_c24 C ho hi z1 z2 hH hM hS hz hl (kk _ _ hI')
    by_cases h25 : y = 25
    · obtain ⟨h', σ', v, z1, z2, hI'⟩ := P25 h σ n (xs (6 * n + 1)) (xs (6 * n + 2)) hn6 hI
      refine lv_tableIn (off := 922) (tgt := 955) hx hb dL_law_33 (by rw [h25]; decide) (by rw [h25]; decide) (by rw [h25]; rfl) (by decide) ?_
      exact law_c25 C ho hi z1 z2 hH hM hS hz hl (kk _ _ hI')
    by_cases h26 : y = 26
    · obtain ⟨h', σ', v, z1, z2, hI'⟩ := P26 h σ n (xs (6 * n + 1)) hn6 hI
      refine lv_tableIn (off := 956) (tgt := 989) hx hb dL_law_33 (by rw [h26]; decide) (by rw [h26]; decide) (by rw [h26]; rfl) (by decide) ?_
      exact law_c26 C ho hi z1 z2 hH hM hS hz hl (kk _ _ hI')
    by_cases h27 : y = 27
    · obtain ⟨h', σ', v, z1, z2, hI'⟩ := P27 h σ n (xs (6 * n + 1)) hn6 hI
      refine lv_tableIn (off := 979) (tgt := 1012) hx hb dL_law_33 (by rw [h27]; decide) (by rw [h27]; decide) (by rw [h27]; rfl) (by decide) ?_
      exact law_c27 C ho hi z1 z2 hH hM hS hz hl (kk _ _ hI')
    by_cases h28 : y = 28
    · obtain ⟨h', σ', v, z1, z2, hI'⟩ := P28 h σ n hn6 hI
      refine lv_tableIn (off := 1002) (tgt := 1035) hx hb dL_law_33 (by rw [h28]; decide) (by rw [h28]; decide) (by rw [h28]; rfl) (by decide) ?_
      exact law_c28 C ho hi z1 z2 hH hM hS hz hl (kk _ _ hI')
    by_cases h29 : y = 29
    · obtain ⟨h', σ', v, z1, z2, hI'⟩ := P29 h σ n (xs (6 * n + 1)) hn6 hI
      refine lv_tableIn (off := 1015) (tgt := 1048) hx hb dL_law_33 (by rw [h29]; decide) (by rw [h29]; decide) (by rw [h29]; rfl) (by decide) ?_
      exact law_c29 C ho hi z1 z2 hH hM hS hz hl (kk _ _ hI')
    by_cases h30 : y = 30
    · obtain ⟨h', σ', v, z1, z2, hI'⟩ := P30 h σ n (xs (6 * n + 1)) hn6 hI hFr
      refine lv_tableIn (off := 1038) (tgt := 1071) hx hb dL_law_33 (by rw [h30]; decide) (by rw [h30]; decide) (by rw [h30]; rfl) (by decide) ?_
      exact law_c30 C ho hi z1 z2 hH hM hS hz hl (kk _ _ hI')
    by_cases h31 : y = 31
    · obtain ⟨h', σ', v, z1, z2, hI'⟩ := P31 h σ n hn6 hI
      refine lv_tableIn (off := 1062) (tgt := 1095) hx hb dL_law_33 (by rw [h31]; decide) (by rw [h31]; decide) (by rw [h31]; rfl) (by decide) ?_
      exact law_c31 C ho hi z1 z2 hH hM hS hz hl (kk _ _ hI')
    by_cases h32 : y = 32
    · obtain ⟨v, z1, z2, hI'⟩ := P32 h σ n (xs (6 * n + 1)) hn6 hI
      refine lv_tableIn (off := 1075) (tgt := 1108) hx hb dL_law_33 (by rw [h32]; decide) (by rw [h32]; decide) (by rw [h32]; rfl) (by decide) ?_
      exact law_c32 C ho hi z1 z2 hH hM hS hz hl (kk _ _ hI')
    by_cases h33 : y = 33
    · obtain ⟨h', σ', v, z1, z2, hI'⟩ := P33 h σ n hn6 hI
      refine lv_tableIn (off := 1098) (tgt := 1131) hx hb dL_law_33 (by rw [h33]; decide) (by rw [h33]; decide) (by rw [h33]; rfl) (by decide) ?_
      exact law_c33 C ho hi z1 z2 hH hM hS hz hl (kk _ _ hI')
    by_cases h34 : y = 34
    · obtain ⟨v, z1, z2, hI'⟩ := P34 h σ n (xs (6 * n + 1)) hn6 hI
      refine lv_tableIn (off := 1111) (tgt := 1144) hx hb dL_law_33 (by rw [h34]; decide) (by rw [h34]; decide) (by rw [h34]; rfl) (by decide) ?_
      exact law_c34 C ho hi z1 z2 hH hM hS hz hl (kk _ _ hI')
    refine lv_tableOut (tgt := 1167) hx hb dL_law_33 (sw_out0_35 h0 h1 h2 h3 h4 h5 h6 h7 h8 h9 h10 h11 h12 h13 h14 h15 h16 h17 h18 h19 h20 h21 h22 h23 h24 h25 h26 h27 h28 h29 h30 h31 h32 h33 h34) (by decide) ?_
    exact kk h σ (I2 h σ n hI) H locs h.2.2 (Nat.le_refl _) hH hM hz hS

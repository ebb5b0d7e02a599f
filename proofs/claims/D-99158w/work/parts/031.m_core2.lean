/-! the twin's walks: the goal at a place, ends that leave the state, switches -/
def FU : Nat := 100000
def mGo (p : Program) (l : Launch) (e : Env) (R : Room) (s : State) (m : MethodId) (args : Array Value) (below : List Frame) (meth : Method) (c : Code) (G : mG) (b : Nat) (Q : State → Prop) (nL pc : Nat) (lv : List (Nat × Value)) (st : List Value) (σ : MS) : Prop :=
  ∀ (H : Heap) (locs : List Loc), MW G b σ H → va_S (mB b) s.heap H locs → ∀ ls : Array Slot, lv_has ls nL lv → W p l e R s m args below meth c H locs 0 0 Q (F0 m pc ls st)
section MCORE2
variable {p : Program} {l : Launch} {e : Env} {R : Room} {s : State} {m : MethodId} {args : Array Value} {below : List Frame} {meth : Method} {c : Code} {H H0 : Heap} {locs : List Loc} {cells slots : Nat} {Q : State → Prop} {cc : ByteArray} {nL pc : Nat} {ls : Array Slot} {rest : List Value} {G : mG} {b : Nat} {σ : MS}
theorem m_iret' {x : Int32} {v : Int32} {ty : FieldType} (S : CallFix p m c cc nL s args lw_all RX6) (hr : meth.sig.returnType = some ty) (hlk : meth.locks = false) (hn : narrow ty (.int v) = .int v) (hM : MW G b σ H) (hS : va_S (mB b) s.heap H locs) (h : some v = some x) (hdg : decode cc pc = .ok (.ireturn, 1)) : W p l e R s m args below meth c H locs 0 0 (MQ below (mQi G b (σ, x)) args s 0 0 (mB b)) (F0 m pc ls [.int v]) := by
  cases h
  exact m_iret S hr hlk hn hM hS rfl hdg
theorem m_lret' {x : Int64} {v : Int64} (S : CallFix p m c cc nL s args lw_all RX6) (hr : meth.sig.returnType = some .long) (hlk : meth.locks = false) (hM : MW G b σ H) (hS : va_S (mB b) s.heap H locs) (h : some v = some x) (hdg : decode cc pc = .ok (.lreturn, 1)) : W p l e R s m args below meth c H locs 0 0 (MQ below (mQl G b (σ, x)) args s 0 0 (mB b)) (F0 m pc ls [.long v]) := by
  cases h
  exact m_lret S hr hlk hM hS rfl hdg
end MCORE2
theorem sw_out0_3 {x : Int32} (h0 : ¬ x = 0) (h1 : ¬ x = 1) (h2 : ¬ x = 2) : x.toInt < 0 ∨ 2 < x.toInt := by
  rcases Int.lt_or_le x.toInt 0 with q | q
  · exact Or.inl q
  · rcases Int.lt_or_le 2 x.toInt with r | r
    · exact Or.inr r
    · exfalso
      have g0 : ¬ x.toInt = 0 := fun z => h0 (Int32.toInt_inj.mp (z.trans rfl))
      have g1 : ¬ x.toInt = 1 := fun z => h1 (Int32.toInt_inj.mp (z.trans rfl))
      have g2 : ¬ x.toInt = 2 := fun z => h2 (Int32.toInt_inj.mp (z.trans rfl))
      omega
theorem sw_out0_4 {x : Int32} (h0 : ¬ x = 0) (h1 : ¬ x = 1) (h2 : ¬ x = 2) (h3 : ¬ x = 3) : x.toInt < 0 ∨ 3 < x.toInt := by
  rcases Int.lt_or_le x.toInt 0 with q | q
  · exact Or.inl q
  · rcases Int.lt_or_le 3 x.toInt with r | r
    · exact Or.inr r
    · exfalso
      have g0 : ¬ x.toInt = 0 := fun z => h0 (Int32.toInt_inj.mp (z.trans rfl))
      have g1 : ¬ x.toInt = 1 := fun z => h1 (Int32.toInt_inj.mp (z.trans rfl))
      have g2 : ¬ x.toInt = 2 := fun z => h2 (Int32.toInt_inj.mp (z.trans rfl))
      have g3 : ¬ x.toInt = 3 := fun z => h3 (Int32.toInt_inj.mp (z.trans rfl))
      omega
theorem sw_out0_7 {x : Int32} (h0 : ¬ x = 0) (h1 : ¬ x = 1) (h2 : ¬ x = 2) (h3 : ¬ x = 3) (h4 : ¬ x = 4) (h5 : ¬ x = 5) (h6 : ¬ x = 6) : x.toInt < 0 ∨ 6 < x.toInt := by
  rcases Int.lt_or_le x.toInt 0 with q | q
  · exact Or.inl q
  · rcases Int.lt_or_le 6 x.toInt with r | r
    · exact Or.inr r
    · exfalso
      have g0 : ¬ x.toInt = 0 := fun z => h0 (Int32.toInt_inj.mp (z.trans rfl))
      have g1 : ¬ x.toInt = 1 := fun z => h1 (Int32.toInt_inj.mp (z.trans rfl))
      have g2 : ¬ x.toInt = 2 := fun z => h2 (Int32.toInt_inj.mp (z.trans rfl))
      have g3 : ¬ x.toInt = 3 := fun z => h3 (Int32.toInt_inj.mp (z.trans rfl))
      have g4 : ¬ x.toInt = 4 := fun z => h4 (Int32.toInt_inj.mp (z.trans rfl))
      have g5 : ¬ x.toInt = 5 := fun z => h5 (Int32.toInt_inj.mp (z.trans rfl))
      have g6 : ¬ x.toInt = 6 := fun z => h6 (Int32.toInt_inj.mp (z.trans rfl))
      omega
theorem sw_out0_8 {x : Int32} (h0 : ¬ x = 0) (h1 : ¬ x = 1) (h2 : ¬ x = 2) (h3 : ¬ x = 3) (h4 : ¬ x = 4) (h5 : ¬ x = 5) (h6 : ¬ x = 6) (h7 : ¬ x = 7) : x.toInt < 0 ∨ 7 < x.toInt := by
  rcases Int.lt_or_le x.toInt 0 with q | q
  · exact Or.inl q
  · rcases Int.lt_or_le 7 x.toInt with r | r
    · exact Or.inr r
    · exfalso
      have g0 : ¬ x.toInt = 0 := fun z => h0 (Int32.toInt_inj.mp (z.trans rfl))
      have g1 : ¬ x.toInt = 1 := fun z => h1 (Int32.toInt_inj.mp (z.trans rfl))
      have g2 : ¬ x.toInt = 2 := fun z => h2 (Int32.toInt_inj.mp (z.trans rfl))
      have g3 : ¬ x.toInt = 3 := fun z => h3 (Int32.toInt_inj.mp (z.trans rfl))
      have g4 : ¬ x.toInt = 4 := fun z => h4 (Int32.toInt_inj.mp (z.trans rfl))
      have g5 : ¬ x.toInt = 5 := fun z => h5 (Int32.toInt_inj.mp (z.trans rfl))
      have g6 : ¬ x.toInt = 6 := fun z => h6 (Int32.toInt_inj.mp (z.trans rfl))
      have g7 : ¬ x.toInt = 7 := fun z => h7 (Int32.toInt_inj.mp (z.trans rfl))
      omega
theorem sw_out0_11 {x : Int32} (h0 : ¬ x = 0) (h1 : ¬ x = 1) (h2 : ¬ x = 2) (h3 : ¬ x = 3) (h4 : ¬ x = 4) (h5 : ¬ x = 5) (h6 : ¬ x = 6) (h7 : ¬ x = 7) (h8 : ¬ x = 8) (h9 : ¬ x = 9) (h10 : ¬ x = 10) : x.toInt < 0 ∨ 10 < x.toInt := by
  rcases Int.lt_or_le x.toInt 0 with q | q
  · exact Or.inl q
  · rcases Int.lt_or_le 10 x.toInt with r | r
    · exact Or.inr r
    · exfalso
      have g0 : ¬ x.toInt = 0 := fun z => h0 (Int32.toInt_inj.mp (z.trans rfl))
      have g1 : ¬ x.toInt = 1 := fun z => h1 (Int32.toInt_inj.mp (z.trans rfl))
      have g2 : ¬ x.toInt = 2 := fun z => h2 (Int32.toInt_inj.mp (z.trans rfl))
      have g3 : ¬ x.toInt = 3 := fun z => h3 (Int32.toInt_inj.mp (z.trans rfl))
      have g4 : ¬ x.toInt = 4 := fun z => h4 (Int32.toInt_inj.mp (z.trans rfl))
      have g5 : ¬ x.toInt = 5 := fun z => h5 (Int32.toInt_inj.mp (z.trans rfl))
      have g6 : ¬ x.toInt = 6 := fun z => h6 (Int32.toInt_inj.mp (z.trans rfl))
      have g7 : ¬ x.toInt = 7 := fun z => h7 (Int32.toInt_inj.mp (z.trans rfl))
      have g8 : ¬ x.toInt = 8 := fun z => h8 (Int32.toInt_inj.mp (z.trans rfl))
      have g9 : ¬ x.toInt = 9 := fun z => h9 (Int32.toInt_inj.mp (z.trans rfl))
      have g10 : ¬ x.toInt = 10 := fun z => h10 (Int32.toInt_inj.mp (z.trans rfl))
      omega
theorem sw_out0_35 {x : Int32} (h0 : ¬ x = 0) (h1 : ¬ x = 1) (h2 : ¬ x = 2) (h3 : ¬ x = 3) (h4 : ¬ x = 4) (h5 : ¬ x = 5) (h6 : ¬ x = 6) (h7 : ¬ x = 7) (h8 : ¬ x = 8) (h9 : ¬ x = 9) (h10 : ¬ x = 10) (h11 : ¬ x = 11) (h12 : ¬ x = 12) (h13 : ¬ x = 13) (h14 : ¬ x = 14) (h15 : ¬ x = 15) (h16 : ¬ x = 16) (h17 : ¬ x = 17) (h18 : ¬ x = 18) (h19 : ¬ x = 19) (h20 : ¬ x = 20) (h21 : ¬ x = 21) (h22 : ¬ x = 22) (h23 : ¬ x = 23) (h24 : ¬ x = 24) (h25 : ¬ x = 25) (h26 : ¬ x = 26) (h27 : ¬ x = 27) (h28 : ¬ x = 28) (h29 : ¬ x = 29) (h30 : ¬ x = 30) (h31 : ¬ x = 31) (h32 : ¬ x = 32) (h33 : ¬ x = 33) (h34 : ¬ x = 34) : x.toInt < 0 ∨ 34 < x.toInt := by
  rcases Int.lt_or_le x.toInt 0 with q | q
  · exact Or.inl q
  · rcases Int.lt_or_le 34 x.toInt with r | r
    · exact Or.inr r
    · exfalso
      have g0 : ¬ x.toInt = 0 := fun z => h0 (Int32.toInt_inj.mp (z.trans rfl))
      have g1 : ¬ x.toInt = 1 := fun z => h1 (Int32.toInt_inj.mp (z.trans rfl))
      have g2 : ¬ x.toInt = 2 := fun z => h2 (Int32.toInt_inj.mp (z.trans rfl))
      have g3 : ¬ x.toInt = 3 := fun z => h3 (Int32.toInt_inj.mp (z.trans rfl))
      have g4 : ¬ x.toInt = 4 := fun z => h4 (Int32.toInt_inj.mp (z.trans rfl))
      have g5 : ¬ x.toInt = 5 := fun z => h5 (Int32.toInt_inj.mp (z.trans rfl))
      have g6 : ¬ x.toInt = 6 := fun z => h6 (Int32.toInt_inj.mp (z.trans rfl))
      have g7 : ¬ x.toInt = 7 := fun z => h7 (Int32.toInt_inj.mp (z.trans rfl))
      have g8 : ¬ x.toInt = 8 := fun z => h8 (Int32.toInt_inj.mp (z.trans rfl))
      have g9 : ¬ x.toInt = 9 := fun z => h9 (Int32.toInt_inj.mp (z.trans rfl))
      have g10 : ¬ x.toInt = 10 := fun z => h10 (Int32.toInt_inj.mp (z.trans rfl))
      have g11 : ¬ x.toInt = 11 := fun z => h11 (Int32.toInt_inj.mp (z.trans rfl))
      have g12 : ¬ x.toInt = 12 := fun z => h12 (Int32.toInt_inj.mp (z.trans rfl))
      have g13 : ¬ x.toInt = 13 := fun z => h13 (Int32.toInt_inj.mp (z.trans rfl))
      have g14 : ¬ x.toInt = 14 := fun z => h14 (Int32.toInt_inj.mp (z.trans rfl))
      have g15 : ¬ x.toInt = 15 := fun z => h15 (Int32.toInt_inj.mp (z.trans rfl))
      have g16 : ¬ x.toInt = 16 := fun z => h16 (Int32.toInt_inj.mp (z.trans rfl))
      have g17 : ¬ x.toInt = 17 := fun z => h17 (Int32.toInt_inj.mp (z.trans rfl))
      have g18 : ¬ x.toInt = 18 := fun z => h18 (Int32.toInt_inj.mp (z.trans rfl))
      have g19 : ¬ x.toInt = 19 := fun z => h19 (Int32.toInt_inj.mp (z.trans rfl))
      have g20 : ¬ x.toInt = 20 := fun z => h20 (Int32.toInt_inj.mp (z.trans rfl))
      have g21 : ¬ x.toInt = 21 := fun z => h21 (Int32.toInt_inj.mp (z.trans rfl))
      have g22 : ¬ x.toInt = 22 := fun z => h22 (Int32.toInt_inj.mp (z.trans rfl))
      have g23 : ¬ x.toInt = 23 := fun z => h23 (Int32.toInt_inj.mp (z.trans rfl))
      have g24 : ¬ x.toInt = 24 := fun z => h24 (Int32.toInt_inj.mp (z.trans rfl))
      have g25 : ¬ x.toInt = 25 := fun z => h25 (Int32.toInt_inj.mp (z.trans rfl))
      have g26 : ¬ x.toInt = 26 := fun z => h26 (Int32.toInt_inj.mp (z.trans rfl))
      have g27 : ¬ x.toInt = 27 := fun z => h27 (Int32.toInt_inj.mp (z.trans rfl))
      have g28 : ¬ x.toInt = 28 := fun z => h28 (Int32.toInt_inj.mp (z.trans rfl))
      have g29 : ¬ x.toInt = 29 := fun z => h29 (Int32.toInt_inj.mp (z.trans rfl))
      have g30 : ¬ x.toInt = 30 := fun z => h30 (Int32.toInt_inj.mp (z.trans rfl))
      have g31 : ¬ x.toInt = 31 := fun z => h31 (Int32.toInt_inj.mp (z.trans rfl))
      have g32 : ¬ x.toInt = 32 := fun z => h32 (Int32.toInt_inj.mp (z.trans rfl))
      have g33 : ¬ x.toInt = 33 := fun z => h33 (Int32.toInt_inj.mp (z.trans rfl))
      have g34 : ¬ x.toInt = 34 := fun z => h34 (Int32.toInt_inj.mp (z.trans rfl))
      omega
theorem sw_out1_10 {x : Int32} (h0 : ¬ x = 1) (h1 : ¬ x = 2) (h2 : ¬ x = 3) (h3 : ¬ x = 4) (h4 : ¬ x = 5) (h5 : ¬ x = 6) (h6 : ¬ x = 7) (h7 : ¬ x = 8) (h8 : ¬ x = 9) (h9 : ¬ x = 10) : x.toInt < 1 ∨ 10 < x.toInt := by
  rcases Int.lt_or_le x.toInt 1 with q | q
  · exact Or.inl q
  · rcases Int.lt_or_le 10 x.toInt with r | r
    · exact Or.inr r
    · exfalso
      have g0 : ¬ x.toInt = 1 := fun z => h0 (Int32.toInt_inj.mp (z.trans rfl))
      have g1 : ¬ x.toInt = 2 := fun z => h1 (Int32.toInt_inj.mp (z.trans rfl))
      have g2 : ¬ x.toInt = 3 := fun z => h2 (Int32.toInt_inj.mp (z.trans rfl))
      have g3 : ¬ x.toInt = 4 := fun z => h3 (Int32.toInt_inj.mp (z.trans rfl))
      have g4 : ¬ x.toInt = 5 := fun z => h4 (Int32.toInt_inj.mp (z.trans rfl))
      have g5 : ¬ x.toInt = 6 := fun z => h5 (Int32.toInt_inj.mp (z.trans rfl))
      have g6 : ¬ x.toInt = 7 := fun z => h6 (Int32.toInt_inj.mp (z.trans rfl))
      have g7 : ¬ x.toInt = 8 := fun z => h7 (Int32.toInt_inj.mp (z.trans rfl))
      have g8 : ¬ x.toInt = 9 := fun z => h8 (Int32.toInt_inj.mp (z.trans rfl))
      have g9 : ¬ x.toInt = 10 := fun z => h9 (Int32.toInt_inj.mp (z.trans rfl))
      omega

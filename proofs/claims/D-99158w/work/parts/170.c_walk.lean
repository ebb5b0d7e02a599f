set_option maxRecDepth 100000
/-! FourOnOneModel.<init>()V -/
def fX6_init_1643 (K : KE) (a0 : Nat) (h : HS) : Option (HS) :=
  (nA K h 0 (.inl (fun _ => 0)) (1700 : Int32)).bind fun h1 =>
  (pV h1 (some a0) 22 91 (va_rf (some h.2.1))).bind fun h2 =>
  (nA K h2 0 (.inl (fun _ => 0)) (1700 : Int32)).bind fun h3 =>
  (pV h3 (some a0) 22 93 (va_rf (some h2.2.1))).bind fun h4 =>
  (nA K h4 1 (.inr (.inl (fun _ => 0))) (1700 : Int32)).bind fun h5 =>
  (pV h5 (some a0) 22 97 (va_rf (some h4.2.1))).bind fun h6 =>
  (nA K h6 0 (.inl (fun _ => 0)) (139 : Int32)).bind fun h7 =>
  (pV h7 (some a0) 22 101 (va_rf (some h6.2.1))).bind fun h8 =>
  some h8
def fX6_init_1573 (K : KE) (a0 : Nat) (h : HS) : Option (HS) :=
  (nA K h 2 (.inl (fun _ => 0)) (6 : Int32)).bind fun h1 =>
  (sC h1 (some h.2.1) 2 (0 : Int32) (vp_nar .char (110 : Int32))).bind fun h2 =>
  (sC h2 (some h.2.1) 2 (1 : Int32) (vp_nar .char (117 : Int32))).bind fun h3 =>
  (sC h3 (some h.2.1) 2 (2 : Int32) (vp_nar .char (109 : Int32))).bind fun h4 =>
  (sC h4 (some h.2.1) 2 (3 : Int32) (vp_nar .char (98 : Int32))).bind fun h5 =>
  (sC h5 (some h.2.1) 2 (4 : Int32) (vp_nar .char (101 : Int32))).bind fun h6 =>
  (sC h6 (some h.2.1) 2 (5 : Int32) (vp_nar .char (114 : Int32))).bind fun h7 =>
  (pV h7 (some a0) 22 89 (va_rf (some h.2.1))).bind fun h8 =>
  (nA K h8 2 (.inl (fun _ => 0)) (5 : Int32)).bind fun h9 =>
  (sC h9 (some h8.2.1) 2 (0 : Int32) (vp_nar .char (119 : Int32))).bind fun h10 =>
  (sC h10 (some h8.2.1) 2 (1 : Int32) (vp_nar .char (111 : Int32))).bind fun h11 =>
  (sC h11 (some h8.2.1) 2 (2 : Int32) (vp_nar .char (114 : Int32))).bind fun h12 =>
  (sC h12 (some h8.2.1) 2 (3 : Int32) (vp_nar .char (116 : Int32))).bind fun h13 =>
  (sC h13 (some h8.2.1) 2 (4 : Int32) (vp_nar .char (104 : Int32))).bind fun h14 =>
  (pV h14 (some a0) 22 90 (va_rf (some h8.2.1))).bind fun h15 =>
  fX6_init_1643 K a0 h15
def fX6_init_1482 (K : KE) (a0 : Nat) (h : HS) : Option (HS) :=
  (nA K h 2 (.inl (fun _ => 0)) (5 : Int32)).bind fun h1 =>
  (sC h1 (some h.2.1) 2 (0 : Int32) (vp_nar .char (112 : Int32))).bind fun h2 =>
  (sC h2 (some h.2.1) 2 (1 : Int32) (vp_nar .char (97 : Int32))).bind fun h3 =>
  (sC h3 (some h.2.1) 2 (2 : Int32) (vp_nar .char (114 : Int32))).bind fun h4 =>
  (sC h4 (some h.2.1) 2 (3 : Int32) (vp_nar .char (116 : Int32))).bind fun h5 =>
  (sC h5 (some h.2.1) 2 (4 : Int32) (vp_nar .char (115 : Int32))).bind fun h6 =>
  (pV h6 (some a0) 22 86 (va_rf (some h.2.1))).bind fun h7 =>
  (nA K h7 2 (.inl (fun _ => 0)) (4 : Int32)).bind fun h8 =>
  (sC h8 (some h7.2.1) 2 (0 : Int32) (vp_nar .char (115 : Int32))).bind fun h9 =>
  (sC h9 (some h7.2.1) 2 (1 : Int32) (vp_nar .char (101 : Int32))).bind fun h10 =>
  (sC h10 (some h7.2.1) 2 (2 : Int32) (vp_nar .char (101 : Int32))).bind fun h11 =>
  (sC h11 (some h7.2.1) 2 (3 : Int32) (vp_nar .char (110 : Int32))).bind fun h12 =>
  (pV h12 (some a0) 22 87 (va_rf (some h7.2.1))).bind fun h13 =>
  (nA K h13 2 (.inl (fun _ => 0)) (5 : Int32)).bind fun h14 =>
  (sC h14 (some h13.2.1) 2 (0 : Int32) (vp_nar .char (115 : Int32))).bind fun h15 =>
  (sC h15 (some h13.2.1) 2 (1 : Int32) (vp_nar .char (99 : Int32))).bind fun h16 =>
  (sC h16 (some h13.2.1) 2 (2 : Int32) (vp_nar .char (111 : Int32))).bind fun h17 =>
  (sC h17 (some h13.2.1) 2 (3 : Int32) (vp_nar .char (114 : Int32))).bind fun h18 =>
  (sC h18 (some h13.2.1) 2 (4 : Int32) (vp_nar .char (101 : Int32))).bind fun h19 =>
  (pV h19 (some a0) 22 88 (va_rf (some h13.2.1))).bind fun h20 =>
  fX6_init_1573 K a0 h20
def fX6_init_1385 (K : KE) (a0 : Nat) (h : HS) : Option (HS) :=
  (nA K h 2 (.inl (fun _ => 0)) (4 : Int32)).bind fun h1 =>
  (sC h1 (some h.2.1) 2 (0 : Int32) (vp_nar .char (104 : Int32))).bind fun h2 =>
  (sC h2 (some h.2.1) 2 (1 : Int32) (vp_nar .char (111 : Int32))).bind fun h3 =>
  (sC h3 (some h.2.1) 2 (2 : Int32) (vp_nar .char (117 : Int32))).bind fun h4 =>
  (sC h4 (some h.2.1) 2 (3 : Int32) (vp_nar .char (114 : Int32))).bind fun h5 =>
  (pV h5 (some a0) 22 83 (va_rf (some h.2.1))).bind fun h6 =>
  (nA K h6 2 (.inl (fun _ => 0)) (5 : Int32)).bind fun h7 =>
  (sC h7 (some h6.2.1) 2 (0 : Int32) (vp_nar .char (116 : Int32))).bind fun h8 =>
  (sC h8 (some h6.2.1) 2 (1 : Int32) (vp_nar .char (97 : Int32))).bind fun h9 =>
  (sC h9 (some h6.2.1) 2 (2 : Int32) (vp_nar .char (115 : Int32))).bind fun h10 =>
  (sC h10 (some h6.2.1) 2 (3 : Int32) (vp_nar .char (116 : Int32))).bind fun h11 =>
  (sC h11 (some h6.2.1) 2 (4 : Int32) (vp_nar .char (101 : Int32))).bind fun h12 =>
  (pV h12 (some a0) 22 84 (va_rf (some h6.2.1))).bind fun h13 =>
  (nA K h13 2 (.inl (fun _ => 0)) (6 : Int32)).bind fun h14 =>
  (sC h14 (some h13.2.1) 2 (0 : Int32) (vp_nar .char (119 : Int32))).bind fun h15 =>
  (sC h15 (some h13.2.1) 2 (1 : Int32) (vp_nar .char (101 : Int32))).bind fun h16 =>
  (sC h16 (some h13.2.1) 2 (2 : Int32) (vp_nar .char (105 : Int32))).bind fun h17 =>
  (sC h17 (some h13.2.1) 2 (3 : Int32) (vp_nar .char (103 : Int32))).bind fun h18 =>
  (sC h18 (some h13.2.1) 2 (4 : Int32) (vp_nar .char (104 : Int32))).bind fun h19 =>
  (sC h19 (some h13.2.1) 2 (5 : Int32) (vp_nar .char (116 : Int32))).bind fun h20 =>
  (pV h20 (some a0) 22 85 (va_rf (some h13.2.1))).bind fun h21 =>
  fX6_init_1482 K a0 h21
def fX6_init_1302 (K : KE) (a0 : Nat) (h : HS) : Option (HS) :=
  (nA K h 2 (.inl (fun _ => 0)) (2 : Int32)).bind fun h1 =>
  (sC h1 (some h.2.1) 2 (0 : Int32) (vp_nar .char (111 : Int32))).bind fun h2 =>
  (sC h2 (some h.2.1) 2 (1 : Int32) (vp_nar .char (114 : Int32))).bind fun h3 =>
  (pV h3 (some a0) 22 79 (va_rf (some h.2.1))).bind fun h4 =>
  (nA K h4 2 (.inl (fun _ => 0)) (3 : Int32)).bind fun h5 =>
  (sC h5 (some h4.2.1) 2 (0 : Int32) (vp_nar .char (97 : Int32))).bind fun h6 =>
  (sC h6 (some h4.2.1) 2 (1 : Int32) (vp_nar .char (108 : Int32))).bind fun h7 =>
  (sC h7 (some h4.2.1) 2 (2 : Int32) (vp_nar .char (108 : Int32))).bind fun h8 =>
  (pV h8 (some a0) 22 80 (va_rf (some h4.2.1))).bind fun h9 =>
  (nA K h9 2 (.inl (fun _ => 0)) (3 : Int32)).bind fun h10 =>
  (sC h10 (some h9.2.1) 2 (0 : Int32) (vp_nar .char (109 : Int32))).bind fun h11 =>
  (sC h11 (some h9.2.1) 2 (1 : Int32) (vp_nar .char (105 : Int32))).bind fun h12 =>
  (sC h12 (some h9.2.1) 2 (2 : Int32) (vp_nar .char (110 : Int32))).bind fun h13 =>
  (pV h13 (some a0) 22 81 (va_rf (some h9.2.1))).bind fun h14 =>
  (nA K h14 2 (.inl (fun _ => 0)) (3 : Int32)).bind fun h15 =>
  (sC h15 (some h14.2.1) 2 (0 : Int32) (vp_nar .char (109 : Int32))).bind fun h16 =>
  (sC h16 (some h14.2.1) 2 (1 : Int32) (vp_nar .char (97 : Int32))).bind fun h17 =>
  (sC h17 (some h14.2.1) 2 (2 : Int32) (vp_nar .char (120 : Int32))).bind fun h18 =>
  (pV h18 (some a0) 22 82 (va_rf (some h14.2.1))).bind fun h19 =>
  fX6_init_1385 K a0 h19
def fX6_init_1226 (K : KE) (a0 : Nat) (h : HS) : Option (HS) :=
  (nA K h 2 (.inl (fun _ => 0)) (5 : Int32)).bind fun h1 =>
  (sC h1 (some h.2.1) 2 (0 : Int32) (vp_nar .char (108 : Int32))).bind fun h2 =>
  (sC h2 (some h.2.1) 2 (1 : Int32) (vp_nar .char (101 : Int32))).bind fun h3 =>
  (sC h3 (some h.2.1) 2 (2 : Int32) (vp_nar .char (97 : Int32))).bind fun h4 =>
  (sC h4 (some h.2.1) 2 (3 : Int32) (vp_nar .char (115 : Int32))).bind fun h5 =>
  (sC h5 (some h.2.1) 2 (4 : Int32) (vp_nar .char (116 : Int32))).bind fun h6 =>
  (pV h6 (some a0) 22 76 (va_rf (some h.2.1))).bind fun h7 =>
  (nA K h7 2 (.inl (fun _ => 0)) (3 : Int32)).bind fun h8 =>
  (sC h8 (some h7.2.1) 2 (0 : Int32) (vp_nar .char (110 : Int32))).bind fun h9 =>
  (sC h9 (some h7.2.1) 2 (1 : Int32) (vp_nar .char (111 : Int32))).bind fun h10 =>
  (sC h10 (some h7.2.1) 2 (2 : Int32) (vp_nar .char (116 : Int32))).bind fun h11 =>
  (pV h11 (some a0) 22 77 (va_rf (some h7.2.1))).bind fun h12 =>
  (nA K h12 2 (.inl (fun _ => 0)) (3 : Int32)).bind fun h13 =>
  (sC h13 (some h12.2.1) 2 (0 : Int32) (vp_nar .char (97 : Int32))).bind fun h14 =>
  (sC h14 (some h12.2.1) 2 (1 : Int32) (vp_nar .char (110 : Int32))).bind fun h15 =>
  (sC h15 (some h12.2.1) 2 (2 : Int32) (vp_nar .char (100 : Int32))).bind fun h16 =>
  (pV h16 (some a0) 22 78 (va_rf (some h12.2.1))).bind fun h17 =>
  fX6_init_1302 K a0 h17
def fX6_init_1135 (K : KE) (a0 : Nat) (h : HS) : Option (HS) :=
  (nA K h 2 (.inl (fun _ => 0)) (5 : Int32)).bind fun h1 =>
  (sC h1 (some h.2.1) 2 (0 : Int32) (vp_nar .char (111 : Int32))).bind fun h2 =>
  (sC h2 (some h.2.1) 2 (1 : Int32) (vp_nar .char (102 : Int32))).bind fun h3 =>
  (sC h3 (some h.2.1) 2 (2 : Int32) (vp_nar .char (116 : Int32))).bind fun h4 =>
  (sC h4 (some h.2.1) 2 (3 : Int32) (vp_nar .char (101 : Int32))).bind fun h5 =>
  (sC h5 (some h.2.1) 2 (4 : Int32) (vp_nar .char (110 : Int32))).bind fun h6 =>
  (pV h6 (some a0) 22 73 (va_rf (some h.2.1))).bind fun h7 =>
  (nA K h7 2 (.inl (fun _ => 0)) (5 : Int32)).bind fun h8 =>
  (sC h8 (some h7.2.1) 2 (0 : Int32) (vp_nar .char (116 : Int32))).bind fun h9 =>
  (sC h9 (some h7.2.1) 2 (1 : Int32) (vp_nar .char (111 : Int32))).bind fun h10 =>
  (sC h10 (some h7.2.1) 2 (2 : Int32) (vp_nar .char (116 : Int32))).bind fun h11 =>
  (sC h11 (some h7.2.1) 2 (3 : Int32) (vp_nar .char (97 : Int32))).bind fun h12 =>
  (sC h12 (some h7.2.1) 2 (4 : Int32) (vp_nar .char (108 : Int32))).bind fun h13 =>
  (pV h13 (some a0) 22 74 (va_rf (some h7.2.1))).bind fun h14 =>
  (nA K h14 2 (.inl (fun _ => 0)) (4 : Int32)).bind fun h15 =>
  (sC h15 (some h14.2.1) 2 (0 : Int32) (vp_nar .char (109 : Int32))).bind fun h16 =>
  (sC h16 (some h14.2.1) 2 (1 : Int32) (vp_nar .char (111 : Int32))).bind fun h17 =>
  (sC h17 (some h14.2.1) 2 (2 : Int32) (vp_nar .char (115 : Int32))).bind fun h18 =>
  (sC h18 (some h14.2.1) 2 (3 : Int32) (vp_nar .char (116 : Int32))).bind fun h19 =>
  (pV h19 (some a0) 22 75 (va_rf (some h14.2.1))).bind fun h20 =>
  fX6_init_1226 K a0 h20
def fX6_init_1038 (K : KE) (a0 : Nat) (h : HS) : Option (HS) :=
  (nA K h 0 (.inl (fun _ => 0)) (5 : Int32)).bind fun h1 =>
  (pV h1 (some a0) 22 63 (va_rf (some h.2.1))).bind fun h2 =>
  (nA K h2 1 (.inr (.inl (fun _ => 0))) (160 : Int32)).bind fun h3 =>
  (pV h3 (some a0) 22 64 (va_rf (some h2.2.1))).bind fun h4 =>
  (nA K h4 0 (.inl (fun _ => 0)) (48 : Int32)).bind fun h5 =>
  (pV h5 (some a0) 22 66 (va_rf (some h4.2.1))).bind fun h6 =>
  (nA K h6 0 (.inl (fun _ => 0)) (5140 : Int32)).bind fun h7 =>
  (pV h7 (some a0) 22 67 (va_rf (some h6.2.1))).bind fun h8 =>
  (pV h8 (some a0) 22 70 (.long (1 : Int64))).bind fun h9 =>
  (nA K h9 2 (.inl (fun _ => 0)) (5 : Int32)).bind fun h10 =>
  (sC h10 (some h9.2.1) 2 (0 : Int32) (vp_nar .char (102 : Int32))).bind fun h11 =>
  (sC h11 (some h9.2.1) 2 (1 : Int32) (vp_nar .char (105 : Int32))).bind fun h12 =>
  (sC h12 (some h9.2.1) 2 (2 : Int32) (vp_nar .char (114 : Int32))).bind fun h13 =>
  (sC h13 (some h9.2.1) 2 (3 : Int32) (vp_nar .char (115 : Int32))).bind fun h14 =>
  (sC h14 (some h9.2.1) 2 (4 : Int32) (vp_nar .char (116 : Int32))).bind fun h15 =>
  (pV h15 (some a0) 22 71 (va_rf (some h9.2.1))).bind fun h16 =>
  (nA K h16 2 (.inl (fun _ => 0)) (4 : Int32)).bind fun h17 =>
  (sC h17 (some h16.2.1) 2 (0 : Int32) (vp_nar .char (108 : Int32))).bind fun h18 =>
  (sC h18 (some h16.2.1) 2 (1 : Int32) (vp_nar .char (97 : Int32))).bind fun h19 =>
  (sC h19 (some h16.2.1) 2 (2 : Int32) (vp_nar .char (115 : Int32))).bind fun h20 =>
  (sC h20 (some h16.2.1) 2 (3 : Int32) (vp_nar .char (116 : Int32))).bind fun h21 =>
  (pV h21 (some a0) 22 72 (va_rf (some h16.2.1))).bind fun h22 =>
  fX6_init_1135 K a0 h22
def fX6_init_958 (K : KE) (a0 : Nat) (h : HS) : Option (HS) :=
  (nA K h 0 (.inl (fun _ => 0)) (6 : Int32)).bind fun h1 =>
  (sC h1 (some h.2.1) 0 (0 : Int32) (-1 : Int32)).bind fun h2 =>
  (sC h2 (some h.2.1) 0 (1 : Int32) (-1 : Int32)).bind fun h3 =>
  (sC h3 (some h.2.1) 0 (2 : Int32) (-1 : Int32)).bind fun h4 =>
  (sC h4 (some h.2.1) 0 (3 : Int32) (-1 : Int32)).bind fun h5 =>
  (sC h5 (some h.2.1) 0 (4 : Int32) (-1 : Int32)).bind fun h6 =>
  (sC h6 (some h.2.1) 0 (5 : Int32) (-1 : Int32)).bind fun h7 =>
  (pV h7 (some a0) 22 48 (va_rf (some h.2.1))).bind fun h8 =>
  (nA K h8 0 (.inl (fun _ => 0)) (6 : Int32)).bind fun h9 =>
  (pV h9 (some a0) 22 49 (va_rf (some h8.2.1))).bind fun h10 =>
  (nA K h10 0 (.inl (fun _ => 0)) (3200 : Int32)).bind fun h11 =>
  (pV h11 (some a0) 22 50 (va_rf (some h10.2.1))).bind fun h12 =>
  (nA K h12 0 (.inl (fun _ => 0)) (257 : Int32)).bind fun h13 =>
  (pV h13 (some a0) 22 54 (va_rf (some h12.2.1))).bind fun h14 =>
  (nA K h14 0 (.inl (fun _ => 0)) (96 : Int32)).bind fun h15 =>
  (pV h15 (some a0) 22 55 (va_rf (some h14.2.1))).bind fun h16 =>
  (nA K h16 0 (.inl (fun _ => 0)) (5 : Int32)).bind fun h17 =>
  (pV h17 (some a0) 22 61 (va_rf (some h16.2.1))).bind fun h18 =>
  (nA K h18 1 (.inr (.inl (fun _ => 0))) (5 : Int32)).bind fun h19 =>
  (pV h19 (some a0) 22 62 (va_rf (some h18.2.1))).bind fun h20 =>
  fX6_init_1038 K a0 h20
def fX6_init_868 (K : KE) (a0 : Nat) (h : HS) : Option (HS) :=
  (nA K h 0 (.inl (fun _ => 0)) (6 : Int32)).bind fun h1 =>
  (pV h1 (some a0) 22 40 (va_rf (some h.2.1))).bind fun h2 =>
  (nA K h2 1 (.inr (.inl (fun _ => 0))) (48 : Int32)).bind fun h3 =>
  (pV h3 (some a0) 22 41 (va_rf (some h2.2.1))).bind fun h4 =>
  (nA K h4 0 (.inl (fun _ => 0)) (16 : Int32)).bind fun h5 =>
  (pV h5 (some a0) 22 42 (va_rf (some h4.2.1))).bind fun h6 =>
  (nA K h6 0 (.inl (fun _ => 0)) (96 : Int32)).bind fun h7 =>
  (pV h7 (some a0) 22 43 (va_rf (some h6.2.1))).bind fun h8 =>
  (nA K h8 0 (.inl (fun _ => 0)) (20 : Int32)).bind fun h9 =>
  (pV h9 (some a0) 22 44 (va_rf (some h8.2.1))).bind fun h10 =>
  (nA K h10 0 (.inl (fun _ => 0)) (60 : Int32)).bind fun h11 =>
  (pV h11 (some a0) 22 45 (va_rf (some h10.2.1))).bind fun h12 =>
  (nA K h12 0 (.inl (fun _ => 0)) (8 : Int32)).bind fun h13 =>
  (sC h13 (some h12.2.1) 0 (0 : Int32) (5 : Int32)).bind fun h14 =>
  (sC h14 (some h12.2.1) 0 (1 : Int32) (0 : Int32)).bind fun h15 =>
  (sC h15 (some h12.2.1) 0 (2 : Int32) (0 : Int32)).bind fun h16 =>
  (sC h16 (some h12.2.1) 0 (3 : Int32) (0 : Int32)).bind fun h17 =>
  (sC h17 (some h12.2.1) 0 (4 : Int32) (5 : Int32)).bind fun h18 =>
  (sC h18 (some h12.2.1) 0 (5 : Int32) (0 : Int32)).bind fun h19 =>
  (sC h19 (some h12.2.1) 0 (6 : Int32) (0 : Int32)).bind fun h20 =>
  (sC h20 (some h12.2.1) 0 (7 : Int32) (0 : Int32)).bind fun h21 =>
  (pV h21 (some a0) 22 47 (va_rf (some h12.2.1))).bind fun h22 =>
  fX6_init_958 K a0 h22
def fX6_init_780 (K : KE) (a0 : Nat) (h : HS) : Option (HS) :=
  (nA K h 2 (.inl (fun _ => 0)) (3 : Int32)).bind fun h1 =>
  (sC h1 (some h.2.1) 2 (0 : Int32) (vp_nar .char (110 : Int32))).bind fun h2 =>
  (sC h2 (some h.2.1) 2 (1 : Int32) (vp_nar .char (111 : Int32))).bind fun h3 =>
  (sC h3 (some h.2.1) 2 (2 : Int32) (vp_nar .char (116 : Int32))).bind fun h4 =>
  (pV h4 (some a0) 22 35 (va_rf (some h.2.1))).bind fun h5 =>
  (nA K h5 2 (.inl (fun _ => 0)) (3 : Int32)).bind fun h6 =>
  (sC h6 (some h5.2.1) 2 (0 : Int32) (vp_nar .char (97 : Int32))).bind fun h7 =>
  (sC h7 (some h5.2.1) 2 (1 : Int32) (vp_nar .char (108 : Int32))).bind fun h8 =>
  (sC h8 (some h5.2.1) 2 (2 : Int32) (vp_nar .char (108 : Int32))).bind fun h9 =>
  (pV h9 (some a0) 22 36 (va_rf (some h5.2.1))).bind fun h10 =>
  (nA K h10 2 (.inl (fun _ => 0)) (3 : Int32)).bind fun h11 =>
  (sC h11 (some h10.2.1) 2 (0 : Int32) (vp_nar .char (109 : Int32))).bind fun h12 =>
  (sC h12 (some h10.2.1) 2 (1 : Int32) (vp_nar .char (105 : Int32))).bind fun h13 =>
  (sC h13 (some h10.2.1) 2 (2 : Int32) (vp_nar .char (110 : Int32))).bind fun h14 =>
  (pV h14 (some a0) 22 37 (va_rf (some h10.2.1))).bind fun h15 =>
  (nA K h15 2 (.inl (fun _ => 0)) (3 : Int32)).bind fun h16 =>
  (sC h16 (some h15.2.1) 2 (0 : Int32) (vp_nar .char (109 : Int32))).bind fun h17 =>
  (sC h17 (some h15.2.1) 2 (1 : Int32) (vp_nar .char (97 : Int32))).bind fun h18 =>
  (sC h18 (some h15.2.1) 2 (2 : Int32) (vp_nar .char (120 : Int32))).bind fun h19 =>
  (pV h19 (some a0) 22 38 (va_rf (some h15.2.1))).bind fun h20 =>
  fX6_init_868 K a0 h20
def fX6_init_703 (K : KE) (a0 : Nat) (h : HS) : Option (HS) :=
  (nA K h 2 (.inl (fun _ => 0)) (6 : Int32)).bind fun h1 =>
  (sC h1 (some h.2.1) 2 (0 : Int32) (vp_nar .char (110 : Int32))).bind fun h2 =>
  (sC h2 (some h.2.1) 2 (1 : Int32) (vp_nar .char (117 : Int32))).bind fun h3 =>
  (sC h3 (some h.2.1) 2 (2 : Int32) (vp_nar .char (109 : Int32))).bind fun h4 =>
  (sC h4 (some h.2.1) 2 (3 : Int32) (vp_nar .char (98 : Int32))).bind fun h5 =>
  (sC h5 (some h.2.1) 2 (4 : Int32) (vp_nar .char (101 : Int32))).bind fun h6 =>
  (sC h6 (some h.2.1) 2 (5 : Int32) (vp_nar .char (114 : Int32))).bind fun h7 =>
  (pV h7 (some a0) 22 32 (va_rf (some h.2.1))).bind fun h8 =>
  (nA K h8 2 (.inl (fun _ => 0)) (2 : Int32)).bind fun h9 =>
  (sC h9 (some h8.2.1) 2 (0 : Int32) (vp_nar .char (111 : Int32))).bind fun h10 =>
  (sC h10 (some h8.2.1) 2 (1 : Int32) (vp_nar .char (114 : Int32))).bind fun h11 =>
  (pV h11 (some a0) 22 33 (va_rf (some h8.2.1))).bind fun h12 =>
  (nA K h12 2 (.inl (fun _ => 0)) (3 : Int32)).bind fun h13 =>
  (sC h13 (some h12.2.1) 2 (0 : Int32) (vp_nar .char (97 : Int32))).bind fun h14 =>
  (sC h14 (some h12.2.1) 2 (1 : Int32) (vp_nar .char (110 : Int32))).bind fun h15 =>
  (sC h15 (some h12.2.1) 2 (2 : Int32) (vp_nar .char (100 : Int32))).bind fun h16 =>
  (pV h16 (some a0) 22 34 (va_rf (some h12.2.1))).bind fun h17 =>
  fX6_init_780 K a0 h17
def fX6_init_612 (K : KE) (a0 : Nat) (h : HS) : Option (HS) :=
  (nA K h 2 (.inl (fun _ => 0)) (4 : Int32)).bind fun h1 =>
  (sC h1 (some h.2.1) 2 (0 : Int32) (vp_nar .char (115 : Int32))).bind fun h2 =>
  (sC h2 (some h.2.1) 2 (1 : Int32) (vp_nar .char (101 : Int32))).bind fun h3 =>
  (sC h3 (some h.2.1) 2 (2 : Int32) (vp_nar .char (101 : Int32))).bind fun h4 =>
  (sC h4 (some h.2.1) 2 (3 : Int32) (vp_nar .char (110 : Int32))).bind fun h5 =>
  (pV h5 (some a0) 22 29 (va_rf (some h.2.1))).bind fun h6 =>
  (nA K h6 2 (.inl (fun _ => 0)) (5 : Int32)).bind fun h7 =>
  (sC h7 (some h6.2.1) 2 (0 : Int32) (vp_nar .char (115 : Int32))).bind fun h8 =>
  (sC h8 (some h6.2.1) 2 (1 : Int32) (vp_nar .char (99 : Int32))).bind fun h9 =>
  (sC h9 (some h6.2.1) 2 (2 : Int32) (vp_nar .char (111 : Int32))).bind fun h10 =>
  (sC h10 (some h6.2.1) 2 (3 : Int32) (vp_nar .char (114 : Int32))).bind fun h11 =>
  (sC h11 (some h6.2.1) 2 (4 : Int32) (vp_nar .char (101 : Int32))).bind fun h12 =>
  (pV h12 (some a0) 22 30 (va_rf (some h6.2.1))).bind fun h13 =>
  (nA K h13 2 (.inl (fun _ => 0)) (5 : Int32)).bind fun h14 =>
  (sC h14 (some h13.2.1) 2 (0 : Int32) (vp_nar .char (119 : Int32))).bind fun h15 =>
  (sC h15 (some h13.2.1) 2 (1 : Int32) (vp_nar .char (111 : Int32))).bind fun h16 =>
  (sC h16 (some h13.2.1) 2 (2 : Int32) (vp_nar .char (114 : Int32))).bind fun h17 =>
  (sC h17 (some h13.2.1) 2 (3 : Int32) (vp_nar .char (116 : Int32))).bind fun h18 =>
  (sC h18 (some h13.2.1) 2 (4 : Int32) (vp_nar .char (104 : Int32))).bind fun h19 =>
  (pV h19 (some a0) 22 31 (va_rf (some h13.2.1))).bind fun h20 =>
  fX6_init_703 K a0 h20
def fX6_init_515 (K : KE) (a0 : Nat) (h : HS) : Option (HS) :=
  (nA K h 2 (.inl (fun _ => 0)) (4 : Int32)).bind fun h1 =>
  (sC h1 (some h.2.1) 2 (0 : Int32) (vp_nar .char (104 : Int32))).bind fun h2 =>
  (sC h2 (some h.2.1) 2 (1 : Int32) (vp_nar .char (111 : Int32))).bind fun h3 =>
  (sC h3 (some h.2.1) 2 (2 : Int32) (vp_nar .char (117 : Int32))).bind fun h4 =>
  (sC h4 (some h.2.1) 2 (3 : Int32) (vp_nar .char (114 : Int32))).bind fun h5 =>
  (pV h5 (some a0) 22 26 (va_rf (some h.2.1))).bind fun h6 =>
  (nA K h6 2 (.inl (fun _ => 0)) (5 : Int32)).bind fun h7 =>
  (sC h7 (some h6.2.1) 2 (0 : Int32) (vp_nar .char (116 : Int32))).bind fun h8 =>
  (sC h8 (some h6.2.1) 2 (1 : Int32) (vp_nar .char (97 : Int32))).bind fun h9 =>
  (sC h9 (some h6.2.1) 2 (2 : Int32) (vp_nar .char (115 : Int32))).bind fun h10 =>
  (sC h10 (some h6.2.1) 2 (3 : Int32) (vp_nar .char (116 : Int32))).bind fun h11 =>
  (sC h11 (some h6.2.1) 2 (4 : Int32) (vp_nar .char (101 : Int32))).bind fun h12 =>
  (pV h12 (some a0) 22 27 (va_rf (some h6.2.1))).bind fun h13 =>
  (nA K h13 2 (.inl (fun _ => 0)) (6 : Int32)).bind fun h14 =>
  (sC h14 (some h13.2.1) 2 (0 : Int32) (vp_nar .char (119 : Int32))).bind fun h15 =>
  (sC h15 (some h13.2.1) 2 (1 : Int32) (vp_nar .char (101 : Int32))).bind fun h16 =>
  (sC h16 (some h13.2.1) 2 (2 : Int32) (vp_nar .char (105 : Int32))).bind fun h17 =>
  (sC h17 (some h13.2.1) 2 (3 : Int32) (vp_nar .char (103 : Int32))).bind fun h18 =>
  (sC h18 (some h13.2.1) 2 (4 : Int32) (vp_nar .char (104 : Int32))).bind fun h19 =>
  (sC h19 (some h13.2.1) 2 (5 : Int32) (vp_nar .char (116 : Int32))).bind fun h20 =>
  (pV h20 (some a0) 22 28 (va_rf (some h13.2.1))).bind fun h21 =>
  fX6_init_612 K a0 h21
def fX6_init_433 (K : KE) (a0 : Nat) (h : HS) : Option (HS) :=
  (nA K h 2 (.inl (fun _ => 0)) (6 : Int32)).bind fun h1 =>
  (sC h1 (some h.2.1) 2 (0 : Int32) (vp_nar .char (98 : Int32))).bind fun h2 =>
  (sC h2 (some h.2.1) 2 (1 : Int32) (vp_nar .char (111 : Int32))).bind fun h3 =>
  (sC h3 (some h.2.1) 2 (2 : Int32) (vp_nar .char (116 : Int32))).bind fun h4 =>
  (sC h4 (some h.2.1) 2 (3 : Int32) (vp_nar .char (104 : Int32))).bind fun h5 =>
  (sC h5 (some h.2.1) 2 (4 : Int32) (vp_nar .char (101 : Int32))).bind fun h6 =>
  (sC h6 (some h.2.1) 2 (5 : Int32) (vp_nar .char (114 : Int32))).bind fun h7 =>
  (pV h7 (some a0) 22 24 (va_rf (some h.2.1))).bind fun h8 =>
  (nA K h8 2 (.inl (fun _ => 0)) (7 : Int32)).bind fun h9 =>
  (sC h9 (some h8.2.1) 2 (0 : Int32) (vp_nar .char (115 : Int32))).bind fun h10 =>
  (sC h10 (some h8.2.1) 2 (1 : Int32) (vp_nar .char (116 : Int32))).bind fun h11 =>
  (sC h11 (some h8.2.1) 2 (2 : Int32) (vp_nar .char (114 : Int32))).bind fun h12 =>
  (sC h12 (some h8.2.1) 2 (3 : Int32) (vp_nar .char (97 : Int32))).bind fun h13 =>
  (sC h13 (some h8.2.1) 2 (4 : Int32) (vp_nar .char (110 : Int32))).bind fun h14 =>
  (sC h14 (some h8.2.1) 2 (5 : Int32) (vp_nar .char (103 : Int32))).bind fun h15 =>
  (sC h15 (some h8.2.1) 2 (6 : Int32) (vp_nar .char (101 : Int32))).bind fun h16 =>
  (pV h16 (some a0) 22 25 (va_rf (some h8.2.1))).bind fun h17 =>
  fX6_init_515 K a0 h17
def fX6_init_335 (K : KE) (a0 : Nat) (h : HS) : Option (HS) :=
  (nA K h 2 (.inl (fun _ => 0)) (3 : Int32)).bind fun h1 =>
  (sC h1 (some h.2.1) 2 (0 : Int32) (vp_nar .char (109 : Int32))).bind fun h2 =>
  (sC h2 (some h.2.1) 2 (1 : Int32) (vp_nar .char (97 : Int32))).bind fun h3 =>
  (sC h3 (some h.2.1) 2 (2 : Int32) (vp_nar .char (121 : Int32))).bind fun h4 =>
  (pV h4 (some a0) 22 21 (va_rf (some h.2.1))).bind fun h5 =>
  (nA K h5 2 (.inl (fun _ => 0)) (7 : Int32)).bind fun h6 =>
  (sC h6 (some h5.2.1) 2 (0 : Int32) (vp_nar .char (115 : Int32))).bind fun h7 =>
  (sC h7 (some h5.2.1) 2 (1 : Int32) (vp_nar .char (99 : Int32))).bind fun h8 =>
  (sC h8 (some h5.2.1) 2 (2 : Int32) (vp_nar .char (114 : Int32))).bind fun h9 =>
  (sC h9 (some h5.2.1) 2 (3 : Int32) (vp_nar .char (101 : Int32))).bind fun h10 =>
  (sC h10 (some h5.2.1) 2 (4 : Int32) (vp_nar .char (101 : Int32))).bind fun h11 =>
  (sC h11 (some h5.2.1) 2 (5 : Int32) (vp_nar .char (110 : Int32))).bind fun h12 =>
  (sC h12 (some h5.2.1) 2 (6 : Int32) (vp_nar .char (115 : Int32))).bind fun h13 =>
  (pV h13 (some a0) 22 22 (va_rf (some h5.2.1))).bind fun h14 =>
  (nA K h14 2 (.inl (fun _ => 0)) (5 : Int32)).bind fun h15 =>
  (sC h15 (some h14.2.1) 2 (0 : Int32) (vp_nar .char (112 : Int32))).bind fun h16 =>
  (sC h16 (some h14.2.1) 2 (1 : Int32) (vp_nar .char (114 : Int32))).bind fun h17 =>
  (sC h17 (some h14.2.1) 2 (2 : Int32) (vp_nar .char (105 : Int32))).bind fun h18 =>
  (sC h18 (some h14.2.1) 2 (3 : Int32) (vp_nar .char (99 : Int32))).bind fun h19 =>
  (sC h19 (some h14.2.1) 2 (4 : Int32) (vp_nar .char (101 : Int32))).bind fun h20 =>
  (pV h20 (some a0) 22 23 (va_rf (some h14.2.1))).bind fun h21 =>
  fX6_init_433 K a0 h21
def fX6_init_265 (K : KE) (a0 : Nat) (h : HS) : Option (HS) :=
  (nA K h 2 (.inl (fun _ => 0)) (6 : Int32)).bind fun h1 =>
  (sC h1 (some h.2.1) 2 (0 : Int32) (vp_nar .char (108 : Int32))).bind fun h2 =>
  (sC h2 (some h.2.1) 2 (1 : Int32) (vp_nar .char (101 : Int32))).bind fun h3 =>
  (sC h3 (some h.2.1) 2 (2 : Int32) (vp_nar .char (97 : Int32))).bind fun h4 =>
  (sC h4 (some h.2.1) 2 (3 : Int32) (vp_nar .char (114 : Int32))).bind fun h5 =>
  (sC h5 (some h.2.1) 2 (4 : Int32) (vp_nar .char (110 : Int32))).bind fun h6 =>
  (sC h6 (some h.2.1) 2 (5 : Int32) (vp_nar .char (115 : Int32))).bind fun h7 =>
  (pV h7 (some a0) 22 19 (va_rf (some h.2.1))).bind fun h8 =>
  (nA K h8 2 (.inl (fun _ => 0)) (5 : Int32)).bind fun h9 =>
  (sC h9 (some h8.2.1) 2 (0 : Int32) (vp_nar .char (102 : Int32))).bind fun h10 =>
  (sC h10 (some h8.2.1) 2 (1 : Int32) (vp_nar .char (97 : Int32))).bind fun h11 =>
  (sC h11 (some h8.2.1) 2 (2 : Int32) (vp_nar .char (100 : Int32))).bind fun h12 =>
  (sC h12 (some h8.2.1) 2 (3 : Int32) (vp_nar .char (101 : Int32))).bind fun h13 =>
  (sC h13 (some h8.2.1) 2 (4 : Int32) (vp_nar .char (115 : Int32))).bind fun h14 =>
  (pV h14 (some a0) 22 20 (va_rf (some h8.2.1))).bind fun h15 =>
  fX6_init_335 K a0 h15
def fX6_init_167 (K : KE) (a0 : Nat) (h : HS) : Option (HS) :=
  (nA K h 2 (.inl (fun _ => 0)) (2 : Int32)).bind fun h1 =>
  (sC h1 (some h.2.1) 2 (0 : Int32) (vp_nar .char (97 : Int32))).bind fun h2 =>
  (sC h2 (some h.2.1) 2 (1 : Int32) (vp_nar .char (116 : Int32))).bind fun h3 =>
  (pV h3 (some a0) 22 15 (va_rf (some h.2.1))).bind fun h4 =>
  (nA K h4 2 (.inl (fun _ => 0)) (2 : Int32)).bind fun h5 =>
  (sC h5 (some h4.2.1) 2 (0 : Int32) (vp_nar .char (116 : Int32))).bind fun h6 =>
  (sC h6 (some h4.2.1) 2 (1 : Int32) (vp_nar .char (111 : Int32))).bind fun h7 =>
  (pV h7 (some a0) 22 16 (va_rf (some h4.2.1))).bind fun h8 =>
  (nA K h8 2 (.inl (fun _ => 0)) (5 : Int32)).bind fun h9 =>
  (sC h9 (some h8.2.1) 2 (0 : Int32) (vp_nar .char (108 : Int32))).bind fun h10 =>
  (sC h10 (some h8.2.1) 2 (1 : Int32) (vp_nar .char (105 : Int32))).bind fun h11 =>
  (sC h11 (some h8.2.1) 2 (2 : Int32) (vp_nar .char (107 : Int32))).bind fun h12 =>
  (sC h12 (some h8.2.1) 2 (3 : Int32) (vp_nar .char (101 : Int32))).bind fun h13 =>
  (sC h13 (some h8.2.1) 2 (4 : Int32) (vp_nar .char (115 : Int32))).bind fun h14 =>
  (pV h14 (some a0) 22 17 (va_rf (some h8.2.1))).bind fun h15 =>
  (nA K h15 2 (.inl (fun _ => 0)) (5 : Int32)).bind fun h16 =>
  (sC h16 (some h15.2.1) 2 (0 : Int32) (vp_nar .char (112 : Int32))).bind fun h17 =>
  (sC h17 (some h15.2.1) 2 (1 : Int32) (vp_nar .char (114 : Int32))).bind fun h18 =>
  (sC h18 (some h15.2.1) 2 (2 : Int32) (vp_nar .char (101 : Int32))).bind fun h19 =>
  (sC h19 (some h15.2.1) 2 (3 : Int32) (vp_nar .char (115 : Int32))).bind fun h20 =>
  (sC h20 (some h15.2.1) 2 (4 : Int32) (vp_nar .char (115 : Int32))).bind fun h21 =>
  (pV h21 (some a0) 22 18 (va_rf (some h15.2.1))).bind fun h22 =>
  fX6_init_265 K a0 h22
def fX6_init_80 (K : KE) (a0 : Nat) (h : HS) : Option (HS) :=
  (nA K h 2 (.inl (fun _ => 0)) (5 : Int32)).bind fun h1 =>
  (sC h1 (some h.2.1) 2 (0 : Int32) (vp_nar .char (112 : Int32))).bind fun h2 =>
  (sC h2 (some h.2.1) 2 (1 : Int32) (vp_nar .char (97 : Int32))).bind fun h3 =>
  (sC h3 (some h.2.1) 2 (2 : Int32) (vp_nar .char (114 : Int32))).bind fun h4 =>
  (sC h4 (some h.2.1) 2 (3 : Int32) (vp_nar .char (116 : Int32))).bind fun h5 =>
  (sC h5 (some h.2.1) 2 (4 : Int32) (vp_nar .char (115 : Int32))).bind fun h6 =>
  (pV h6 (some a0) 22 12 (va_rf (some h.2.1))).bind fun h7 =>
  (nA K h7 2 (.inl (fun _ => 0)) (2 : Int32)).bind fun h8 =>
  (sC h8 (some h7.2.1) 2 (0 : Int32) (vp_nar .char (105 : Int32))).bind fun h9 =>
  (sC h9 (some h7.2.1) 2 (1 : Int32) (vp_nar .char (115 : Int32))).bind fun h10 =>
  (pV h10 (some a0) 22 13 (va_rf (some h7.2.1))).bind fun h11 =>
  (nA K h11 2 (.inl (fun _ => 0)) (6 : Int32)).bind fun h12 =>
  (sC h12 (some h11.2.1) 2 (0 : Int32) (vp_nar .char (112 : Int32))).bind fun h13 =>
  (sC h13 (some h11.2.1) 2 (1 : Int32) (vp_nar .char (101 : Int32))).bind fun h14 =>
  (sC h14 (some h11.2.1) 2 (2 : Int32) (vp_nar .char (114 : Int32))).bind fun h15 =>
  (sC h15 (some h11.2.1) 2 (3 : Int32) (vp_nar .char (115 : Int32))).bind fun h16 =>
  (sC h16 (some h11.2.1) 2 (4 : Int32) (vp_nar .char (111 : Int32))).bind fun h17 =>
  (sC h17 (some h11.2.1) 2 (5 : Int32) (vp_nar .char (110 : Int32))).bind fun h18 =>
  (pV h18 (some a0) 22 14 (va_rf (some h11.2.1))).bind fun h19 =>
  fX6_init_167 K a0 h19
def fX6_init (K : KE) (h : HS) (a0 : Nat) : Option (HS) :=
  (nA K h 0 (.inl (fun _ => 0)) (1600 : Int32)).bind fun h1 =>
  (pV h1 (some a0) 22 0 (va_rf (some h.2.1))).bind fun h2 =>
  (pV h2 (some a0) 22 8 (.int (-1 : Int32))).bind fun h3 =>
  (nA K h3 0 (.inl (fun _ => 0)) (6 : Int32)).bind fun h4 =>
  (pV h4 (some a0) 22 9 (va_rf (some h3.2.1))).bind fun h5 =>
  (nA K h5 2 (.inl (fun _ => 0)) (4 : Int32)).bind fun h6 =>
  (sC h6 (some h5.2.1) 2 (0 : Int32) (vp_nar .char (107 : Int32))).bind fun h7 =>
  (sC h7 (some h5.2.1) 2 (1 : Int32) (vp_nar .char (105 : Int32))).bind fun h8 =>
  (sC h8 (some h5.2.1) 2 (2 : Int32) (vp_nar .char (110 : Int32))).bind fun h9 =>
  (sC h9 (some h5.2.1) 2 (3 : Int32) (vp_nar .char (100 : Int32))).bind fun h10 =>
  (pV h10 (some a0) 22 10 (va_rf (some h5.2.1))).bind fun h11 =>
  (nA K h11 2 (.inl (fun _ => 0)) (4 : Int32)).bind fun h12 =>
  (sC h12 (some h11.2.1) 2 (0 : Int32) (vp_nar .char (102 : Int32))).bind fun h13 =>
  (sC h13 (some h11.2.1) 2 (1 : Int32) (vp_nar .char (105 : Int32))).bind fun h14 =>
  (sC h14 (some h11.2.1) 2 (2 : Int32) (vp_nar .char (108 : Int32))).bind fun h15 =>
  (sC h15 (some h11.2.1) 2 (3 : Int32) (vp_nar .char (109 : Int32))).bind fun h16 =>
  (pV h16 (some a0) 22 11 (va_rf (some h11.2.1))).bind fun h17 =>
  fX6_init_80 K a0 h17
set_option maxHeartbeats 4000000 in
theorem wX6_init_1643 {p : Program} {l : Launch} {e : Env} {s : State} {m : MethodId} {args : Array Value} {below : List Frame} {meth : Method} {c : Code} {A : Nat → Prop} {D : va_G} {ac : Nat → ClassId} {K : KE} {h0 : HS} {a0 : Nat} (S : CallFix p m c cX6_init 1 s args lw_all RX6) (hr : meth.sig.returnType = none) (hlk : meth.locks = false) (hnm : meth.name = "<init>") (hG : GK A D ac K s) (hRM : RM K s (rmC 2 40 K h0)) {x : HS} : ∀ (h : HS), fX6_init_1643 K a0 h = some x → cGo p l e (rmC 2 40 K h0) s m args below meth c A D ac K (MQ below (cQv A D ac K x) args s (K.2.2.1 - h0.2.1) (K.2.2.2 - h0.2.2) A) 1 1643 [(0, va_rf (some a0))] [] h := by
  obtain ⟨hx, hb, hml, hown, hts⟩ := id S
  intro h z H locs hH hS ls hl
  unfold fX6_init_1643 at z
  refine c_aload_n hx hb dX6_init_1643 rfl (lv_at hl 0 rfl) ?_
  refine lv_sipush (v := (1700 : Int32)) hx hb dX6_init_1644 (by decide) ?_
  replace z := ob z
  obtain ⟨h1, zh1, z⟩ := z
  refine c_newa S hG hH hS hRM 0 (atype := .int) (ty := .int) rfl rfl (fun y => y) (by decide) q473 (fun _ => rfl) zh1 dX6_init_1647 (fun H locs hH hS => ?_)
  replace z := ob z
  obtain ⟨h2, zh2, z⟩ := z
  refine c_putF S hG hH hS (ci := 22) (k := 91) rfl in_X6 tyX6 tyX6_ok nmX6 (Nat.le_of_ble_eq_true rfl) q1823 (fun _ y => y) rfl hnm rfl (ty := .array .int) rfl (nr_a _) (ft_a _) zh2 dX6_init_1649 (fun H locs hH hS => ?_)
  refine c_aload_n hx hb dX6_init_1652 rfl (lv_at hl 0 rfl) ?_
  refine lv_sipush (v := (1700 : Int32)) hx hb dX6_init_1653 (by decide) ?_
  replace z := ob z
  obtain ⟨h3, zh3, z⟩ := z
  refine c_newa S hG hH hS hRM 0 (atype := .int) (ty := .int) rfl rfl (fun y => y) (by decide) q473 (fun _ => rfl) zh3 dX6_init_1656 (fun H locs hH hS => ?_)
  replace z := ob z
  obtain ⟨h4, zh4, z⟩ := z
  refine c_putF S hG hH hS (ci := 22) (k := 93) rfl in_X6 tyX6 tyX6_ok nmX6 (Nat.le_of_ble_eq_true rfl) q1825 (fun _ y => y) rfl hnm rfl (ty := .array .int) rfl (nr_a _) (ft_a _) zh4 dX6_init_1658 (fun H locs hH hS => ?_)
  refine c_aload_n hx hb dX6_init_1661 rfl (lv_at hl 0 rfl) ?_
  refine lv_sipush (v := (1700 : Int32)) hx hb dX6_init_1662 (by decide) ?_
  replace z := ob z
  obtain ⟨h5, zh5, z⟩ := z
  refine c_newa S hG hH hS hRM 1 (atype := .long) (ty := .long) rfl rfl (fun y => y) (by decide) q420 (fun _ => rfl) zh5 dX6_init_1665 (fun H locs hH hS => ?_)
  replace z := ob z
  obtain ⟨h6, zh6, z⟩ := z
  refine c_putF S hG hH hS (ci := 22) (k := 97) rfl in_X6 tyX6 tyX6_ok nmX6 (Nat.le_of_ble_eq_true rfl) q1829 (fun _ y => y) rfl hnm rfl (ty := .array .long) rfl (nr_a _) (ft_a _) zh6 dX6_init_1667 (fun H locs hH hS => ?_)
  refine c_aload_n hx hb dX6_init_1670 rfl (lv_at hl 0 rfl) ?_
  refine lv_sipush (v := (139 : Int32)) hx hb dX6_init_1671 (by decide) ?_
  replace z := ob z
  obtain ⟨h7, zh7, z⟩ := z
  refine c_newa S hG hH hS hRM 0 (atype := .int) (ty := .int) rfl rfl (fun y => y) (by decide) q473 (fun _ => rfl) zh7 dX6_init_1674 (fun H locs hH hS => ?_)
  replace z := ob z
  obtain ⟨h8, zh8, z⟩ := z
  refine c_putF S hG hH hS (ci := 22) (k := 101) rfl in_X6 tyX6 tyX6_ok nmX6 (Nat.le_of_ble_eq_true rfl) q1833 (fun _ y => y) rfl hnm rfl (ty := .array .int) rfl (nr_a _) (ft_a _) zh8 dX6_init_1676 (fun H locs hH hS => ?_)
  exact c_vret S hr hlk hH hS z dX6_init_1679
set_option maxHeartbeats 4000000 in
theorem wX6_init_1573 {p : Program} {l : Launch} {e : Env} {s : State} {m : MethodId} {args : Array Value} {below : List Frame} {meth : Method} {c : Code} {A : Nat → Prop} {D : va_G} {ac : Nat → ClassId} {K : KE} {h0 : HS} {a0 : Nat} (S : CallFix p m c cX6_init 1 s args lw_all RX6) (hr : meth.sig.returnType = none) (hlk : meth.locks = false) (hnm : meth.name = "<init>") (hG : GK A D ac K s) (hRM : RM K s (rmC 2 40 K h0)) {x : HS} : ∀ (h : HS), fX6_init_1573 K a0 h = some x → cGo p l e (rmC 2 40 K h0) s m args below meth c A D ac K (MQ below (cQv A D ac K x) args s (K.2.2.1 - h0.2.1) (K.2.2.2 - h0.2.2) A) 1 1573 [(0, va_rf (some a0))] [] h := by
  obtain ⟨hx, hb, hml, hown, hts⟩ := id S
  intro h z H locs hH hS ls hl
  unfold fX6_init_1573 at z
  refine c_aload_n hx hb dX6_init_1573 rfl (lv_at hl 0 rfl) ?_
  refine lv_bipush (v := (6 : Int32)) hx hb dX6_init_1574 (by decide) ?_
  replace z := ob z
  obtain ⟨h1, zh1, z⟩ := z
  refine c_newa S hG hH hS hRM 2 (atype := .char) (ty := .char) rfl rfl (fun y => y) (by decide) q686 (fun _ => rfl) zh1 dX6_init_1576 (fun H locs hH hS => ?_)
  refine lv_dup hx hb dX6_init_1578 (ct_r _) ?_
  refine lv_iconst (v := (0 : Int32)) hx hb dX6_init_1579 (by decide) ?_
  refine lv_bipush (v := (110 : Int32)) hx hb dX6_init_1580 (by decide) ?_
  replace z := ob z
  obtain ⟨h2, zh2, z⟩ := z
  refine c_cast S hG hH hS zh2 dX6_init_1582 (fun H locs hH hS => ?_)
  refine lv_dup hx hb dX6_init_1583 (ct_r _) ?_
  refine lv_iconst (v := (1 : Int32)) hx hb dX6_init_1584 (by decide) ?_
  refine lv_bipush (v := (117 : Int32)) hx hb dX6_init_1585 (by decide) ?_
  replace z := ob z
  obtain ⟨h3, zh3, z⟩ := z
  refine c_cast S hG hH hS zh3 dX6_init_1587 (fun H locs hH hS => ?_)
  refine lv_dup hx hb dX6_init_1588 (ct_r _) ?_
  refine lv_iconst (v := (2 : Int32)) hx hb dX6_init_1589 (by decide) ?_
  refine lv_bipush (v := (109 : Int32)) hx hb dX6_init_1590 (by decide) ?_
  replace z := ob z
  obtain ⟨h4, zh4, z⟩ := z
  refine c_cast S hG hH hS zh4 dX6_init_1592 (fun H locs hH hS => ?_)
  refine lv_dup hx hb dX6_init_1593 (ct_r _) ?_
  refine lv_iconst (v := (3 : Int32)) hx hb dX6_init_1594 (by decide) ?_
  refine lv_bipush (v := (98 : Int32)) hx hb dX6_init_1595 (by decide) ?_
  replace z := ob z
  obtain ⟨h5, zh5, z⟩ := z
  refine c_cast S hG hH hS zh5 dX6_init_1597 (fun H locs hH hS => ?_)
  refine lv_dup hx hb dX6_init_1598 (ct_r _) ?_
  refine lv_iconst (v := (4 : Int32)) hx hb dX6_init_1599 (by decide) ?_
  refine lv_bipush (v := (101 : Int32)) hx hb dX6_init_1600 (by decide) ?_
  replace z := ob z
  obtain ⟨h6, zh6, z⟩ := z
  refine c_cast S hG hH hS zh6 dX6_init_1602 (fun H locs hH hS => ?_)
  refine lv_dup hx hb dX6_init_1603 (ct_r _) ?_
  refine lv_iconst (v := (5 : Int32)) hx hb dX6_init_1604 (by decide) ?_
  refine lv_bipush (v := (114 : Int32)) hx hb dX6_init_1605 (by decide) ?_
  replace z := ob z
  obtain ⟨h7, zh7, z⟩ := z
  refine c_cast S hG hH hS zh7 dX6_init_1607 (fun H locs hH hS => ?_)
  replace z := ob z
  obtain ⟨h8, zh8, z⟩ := z
  refine c_putF S hG hH hS (ci := 22) (k := 89) rfl in_X6 tyX6 tyX6_ok nmX6 (Nat.le_of_ble_eq_true rfl) q1821 (fun _ y => y) rfl hnm rfl (ty := .array .char) rfl (nr_a _) (ft_a _) zh8 dX6_init_1608 (fun H locs hH hS => ?_)
  refine c_aload_n hx hb dX6_init_1611 rfl (lv_at hl 0 rfl) ?_
  refine lv_iconst (v := (5 : Int32)) hx hb dX6_init_1612 (by decide) ?_
  replace z := ob z
  obtain ⟨h9, zh9, z⟩ := z
  refine c_newa S hG hH hS hRM 2 (atype := .char) (ty := .char) rfl rfl (fun y => y) (by decide) q686 (fun _ => rfl) zh9 dX6_init_1613 (fun H locs hH hS => ?_)
  refine lv_dup hx hb dX6_init_1615 (ct_r _) ?_
  refine lv_iconst (v := (0 : Int32)) hx hb dX6_init_1616 (by decide) ?_
  refine lv_bipush (v := (119 : Int32)) hx hb dX6_init_1617 (by decide) ?_
  replace z := ob z
  obtain ⟨h10, zh10, z⟩ := z
  refine c_cast S hG hH hS zh10 dX6_init_1619 (fun H locs hH hS => ?_)
  refine lv_dup hx hb dX6_init_1620 (ct_r _) ?_
  refine lv_iconst (v := (1 : Int32)) hx hb dX6_init_1621 (by decide) ?_
  refine lv_bipush (v := (111 : Int32)) hx hb dX6_init_1622 (by decide) ?_
  replace z := ob z
  obtain ⟨h11, zh11, z⟩ := z
  refine c_cast S hG hH hS zh11 dX6_init_1624 (fun H locs hH hS => ?_)
  refine lv_dup hx hb dX6_init_1625 (ct_r _) ?_
  refine lv_iconst (v := (2 : Int32)) hx hb dX6_init_1626 (by decide) ?_
  refine lv_bipush (v := (114 : Int32)) hx hb dX6_init_1627 (by decide) ?_
  replace z := ob z
  obtain ⟨h12, zh12, z⟩ := z
  refine c_cast S hG hH hS zh12 dX6_init_1629 (fun H locs hH hS => ?_)
  refine lv_dup hx hb dX6_init_1630 (ct_r _) ?_
  refine lv_iconst (v := (3 : Int32)) hx hb dX6_init_1631 (by decide) ?_
  refine lv_bipush (v := (116 : Int32)) hx hb dX6_init_1632 (by decide) ?_
  replace z := ob z
  obtain ⟨h13, zh13, z⟩ := z
  refine c_cast S hG hH hS zh13 dX6_init_1634 (fun H locs hH hS => ?_)
  refine lv_dup hx hb dX6_init_1635 (ct_r _) ?_
  refine lv_iconst (v := (4 : Int32)) hx hb dX6_init_1636 (by decide) ?_
  refine lv_bipush (v := (104 : Int32)) hx hb dX6_init_1637 (by decide) ?_
  replace z := ob z
  obtain ⟨h14, zh14, z⟩ := z
  refine c_cast S hG hH hS zh14 dX6_init_1639 (fun H locs hH hS => ?_)
  replace z := ob z
  obtain ⟨h15, zh15, z⟩ := z
  refine c_putF S hG hH hS (ci := 22) (k := 90) rfl in_X6 tyX6 tyX6_ok nmX6 (Nat.le_of_ble_eq_true rfl) q1822 (fun _ y => y) rfl hnm rfl (ty := .array .char) rfl (nr_a _) (ft_a _) zh15 dX6_init_1640 (fun H locs hH hS => ?_)
  exact wX6_init_1643 S hr hlk hnm hG hRM h15 z _ _ hH hS _ (lv_sub hl [0] rfl)
set_option maxHeartbeats 4000000 in
theorem wX6_init_1482 {p : Program} {l : Launch} {e : Env} {s : State} {m : MethodId} {args : Array Value} {below : List Frame} {meth : Method} {c : Code} {A : Nat → Prop} {D : va_G} {ac : Nat → ClassId} {K : KE} {h0 : HS} {a0 : Nat} (S : CallFix p m c cX6_init 1 s args lw_all RX6) (hr : meth.sig.returnType = none) (hlk : meth.locks = false) (hnm : meth.name = "<init>") (hG : GK A D ac K s) (hRM : RM K s (rmC 2 40 K h0)) {x : HS} : ∀ (h : HS), fX6_init_1482 K a0 h = some x → cGo p l e (rmC 2 40 K h0) s m args below meth c A D ac K (MQ below (cQv A D ac K x) args s (K.2.2.1 - h0.2.1) (K.2.2.2 - h0.2.2) A) 1 1482 [(0, va_rf (some a0))] [] h := by
  obtain ⟨hx, hb, hml, hown, hts⟩ := id S
  intro h z H locs hH hS ls hl
  unfold fX6_init_1482 at z
  refine c_aload_n hx hb dX6_init_1482 rfl (lv_at hl 0 rfl) ?_
  refine lv_iconst (v := (5 : Int32)) hx hb dX6_init_1483 (by decide) ?_
  replace z := ob z
  obtain ⟨h1, zh1, z⟩ := z
  refine c_newa S hG hH hS hRM 2 (atype := .char) (ty := .char) rfl rfl (fun y => y) (by decide) q686 (fun _ => rfl) zh1 dX6_init_1484 (fun H locs hH hS => ?_)
  refine lv_dup hx hb dX6_init_1486 (ct_r _) ?_
  refine lv_iconst (v := (0 : Int32)) hx hb dX6_init_1487 (by decide) ?_
  refine lv_bipush (v := (112 : Int32)) hx hb dX6_init_1488 (by decide) ?_
  replace z := ob z
  obtain ⟨h2, zh2, z⟩ := z
  refine c_cast S hG hH hS zh2 dX6_init_1490 (fun H locs hH hS => ?_)
  refine lv_dup hx hb dX6_init_1491 (ct_r _) ?_
  refine lv_iconst (v := (1 : Int32)) hx hb dX6_init_1492 (by decide) ?_
  refine lv_bipush (v := (97 : Int32)) hx hb dX6_init_1493 (by decide) ?_
  replace z := ob z
  obtain ⟨h3, zh3, z⟩ := z
  refine c_cast S hG hH hS zh3 dX6_init_1495 (fun H locs hH hS => ?_)
  refine lv_dup hx hb dX6_init_1496 (ct_r _) ?_
  refine lv_iconst (v := (2 : Int32)) hx hb dX6_init_1497 (by decide) ?_
  refine lv_bipush (v := (114 : Int32)) hx hb dX6_init_1498 (by decide) ?_
  replace z := ob z
  obtain ⟨h4, zh4, z⟩ := z
  refine c_cast S hG hH hS zh4 dX6_init_1500 (fun H locs hH hS => ?_)
  refine lv_dup hx hb dX6_init_1501 (ct_r _) ?_
  refine lv_iconst (v := (3 : Int32)) hx hb dX6_init_1502 (by decide) ?_
  refine lv_bipush (v := (116 : Int32)) hx hb dX6_init_1503 (by decide) ?_
  replace z := ob z
  obtain ⟨h5, zh5, z⟩ := z
  refine c_cast S hG hH hS zh5 dX6_init_1505 (fun H locs hH hS => ?_)
  refine lv_dup hx hb dX6_init_1506 (ct_r _) ?_
  refine lv_iconst (v := (4 : Int32)) hx hb dX6_init_1507 (by decide) ?_
  refine lv_bipush (v := (115 : Int32)) hx hb dX6_init_1508 (by decide) ?_
  replace z := ob z
  obtain ⟨h6, zh6, z⟩ := z
  refine c_cast S hG hH hS zh6 dX6_init_1510 (fun H locs hH hS => ?_)
  replace z := ob z
  obtain ⟨h7, zh7, z⟩ := z
  refine c_putF S hG hH hS (ci := 22) (k := 86) rfl in_X6 tyX6 tyX6_ok nmX6 (Nat.le_of_ble_eq_true rfl) q1818 (fun _ y => y) rfl hnm rfl (ty := .array .char) rfl (nr_a _) (ft_a _) zh7 dX6_init_1511 (fun H locs hH hS => ?_)
  refine c_aload_n hx hb dX6_init_1514 rfl (lv_at hl 0 rfl) ?_
  refine lv_iconst (v := (4 : Int32)) hx hb dX6_init_1515 (by decide) ?_
  replace z := ob z
  obtain ⟨h8, zh8, z⟩ := z
  refine c_newa S hG hH hS hRM 2 (atype := .char) (ty := .char) rfl rfl (fun y => y) (by decide) q686 (fun _ => rfl) zh8 dX6_init_1516 (fun H locs hH hS => ?_)
  refine lv_dup hx hb dX6_init_1518 (ct_r _) ?_
  refine lv_iconst (v := (0 : Int32)) hx hb dX6_init_1519 (by decide) ?_
  refine lv_bipush (v := (115 : Int32)) hx hb dX6_init_1520 (by decide) ?_
  replace z := ob z
  obtain ⟨h9, zh9, z⟩ := z
  refine c_cast S hG hH hS zh9 dX6_init_1522 (fun H locs hH hS => ?_)
  refine lv_dup hx hb dX6_init_1523 (ct_r _) ?_
  refine lv_iconst (v := (1 : Int32)) hx hb dX6_init_1524 (by decide) ?_
  refine lv_bipush (v := (101 : Int32)) hx hb dX6_init_1525 (by decide) ?_
  replace z := ob z
  obtain ⟨h10, zh10, z⟩ := z
  refine c_cast S hG hH hS zh10 dX6_init_1527 (fun H locs hH hS => ?_)
  refine lv_dup hx hb dX6_init_1528 (ct_r _) ?_
  refine lv_iconst (v := (2 : Int32)) hx hb dX6_init_1529 (by decide) ?_
  refine lv_bipush (v := (101 : Int32)) hx hb dX6_init_1530 (by decide) ?_
  replace z := ob z
  obtain ⟨h11, zh11, z⟩ := z
  refine c_cast S hG hH hS zh11 dX6_init_1532 (fun H locs hH hS => ?_)
  refine lv_dup hx hb dX6_init_1533 (ct_r _) ?_
  refine lv_iconst (v := (3 : Int32)) hx hb dX6_init_1534 (by decide) ?_
  refine lv_bipush (v := (110 : Int32)) hx hb dX6_init_1535 (by decide) ?_
  replace z := ob z
  obtain ⟨h12, zh12, z⟩ := z
  refine c_cast S hG hH hS zh12 dX6_init_1537 (fun H locs hH hS => ?_)
  replace z := ob z
  obtain ⟨h13, zh13, z⟩ := z
  refine c_putF S hG hH hS (ci := 22) (k := 87) rfl in_X6 tyX6 tyX6_ok nmX6 (Nat.le_of_ble_eq_true rfl) q1819 (fun _ y => y) rfl hnm rfl (ty := .array .char) rfl (nr_a _) (ft_a _) zh13 dX6_init_1538 (fun H locs hH hS => ?_)
  refine c_aload_n hx hb dX6_init_1541 rfl (lv_at hl 0 rfl) ?_
  refine lv_iconst (v := (5 : Int32)) hx hb dX6_init_1542 (by decide) ?_
  replace z := ob z
  obtain ⟨h14, zh14, z⟩ := z
  refine c_newa S hG hH hS hRM 2 (atype := .char) (ty := .char) rfl rfl (fun y => y) (by decide) q686 (fun _ => rfl) zh14 dX6_init_1543 (fun H locs hH hS => ?_)
  refine lv_dup hx hb dX6_init_1545 (ct_r _) ?_
  refine lv_iconst (v := (0 : Int32)) hx hb dX6_init_1546 (by decide) ?_
  refine lv_bipush (v := (115 : Int32)) hx hb dX6_init_1547 (by decide) ?_
  replace z := ob z
  obtain ⟨h15, zh15, z⟩ := z
  refine c_cast S hG hH hS zh15 dX6_init_1549 (fun H locs hH hS => ?_)
  refine lv_dup hx hb dX6_init_1550 (ct_r _) ?_
  refine lv_iconst (v := (1 : Int32)) hx hb dX6_init_1551 (by decide) ?_
  refine lv_bipush (v := (99 : Int32)) hx hb dX6_init_1552 (by decide) ?_
  replace z := ob z
  obtain ⟨h16, zh16, z⟩ := z
  refine c_cast S hG hH hS zh16 dX6_init_1554 (fun H locs hH hS => ?_)
  refine lv_dup hx hb dX6_init_1555 (ct_r _) ?_
  refine lv_iconst (v := (2 : Int32)) hx hb dX6_init_1556 (by decide) ?_
  refine lv_bipush (v := (111 : Int32)) hx hb dX6_init_1557 (by decide) ?_
  replace z := ob z
  obtain ⟨h17, zh17, z⟩ := z
  refine c_cast S hG hH hS zh17 dX6_init_1559 (fun H locs hH hS => ?_)
  refine lv_dup hx hb dX6_init_1560 (ct_r _) ?_
  refine lv_iconst (v := (3 : Int32)) hx hb dX6_init_1561 (by decide) ?_
  refine lv_bipush (v := (114 : Int32)) hx hb dX6_init_1562 (by decide) ?_
  replace z := ob z
  obtain ⟨h18, zh18, z⟩ := z
  refine c_cast S hG hH hS zh18 dX6_init_1564 (fun H locs hH hS => ?_)
  refine lv_dup hx hb dX6_init_1565 (ct_r _) ?_
  refine lv_iconst (v := (4 : Int32)) hx hb dX6_init_1566 (by decide) ?_
  refine lv_bipush (v := (101 : Int32)) hx hb dX6_init_1567 (by decide) ?_
  replace z := ob z
  obtain ⟨h19, zh19, z⟩ := z
  refine c_cast S hG hH hS zh19 dX6_init_1569 (fun H locs hH hS => ?_)
  replace z := ob z
  obtain ⟨h20, zh20, z⟩ := z
  refine c_putF S hG hH hS (ci := 22) (k := 88) rfl in_X6 tyX6 tyX6_ok nmX6 (Nat.le_of_ble_eq_true rfl) q1820 (fun _ y => y) rfl hnm rfl (ty := .array .char) rfl (nr_a _) (ft_a _) zh20 dX6_init_1570 (fun H locs hH hS => ?_)
  exact wX6_init_1573 S hr hlk hnm hG hRM h20 z _ _ hH hS _ (lv_sub hl [0] rfl)
set_option maxHeartbeats 4000000 in
theorem wX6_init_1385 {p : Program} {l : Launch} {e : Env} {s : State} {m : MethodId} {args : Array Value} {below : List Frame} {meth : Method} {c : Code} {A : Nat → Prop} {D : va_G} {ac : Nat → ClassId} {K : KE} {h0 : HS} {a0 : Nat} (S : CallFix p m c cX6_init 1 s args lw_all RX6) (hr : meth.sig.returnType = none) (hlk : meth.locks = false) (hnm : meth.name = "<init>") (hG : GK A D ac K s) (hRM : RM K s (rmC 2 40 K h0)) {x : HS} : ∀ (h : HS), fX6_init_1385 K a0 h = some x → cGo p l e (rmC 2 40 K h0) s m args below meth c A D ac K (MQ below (cQv A D ac K x) args s (K.2.2.1 - h0.2.1) (K.2.2.2 - h0.2.2) A) 1 1385 [(0, va_rf (some a0))] [] h := by
  obtain ⟨hx, hb, hml, hown, hts⟩ := id S
  intro h z H locs hH hS ls hl
  unfold fX6_init_1385 at z
  refine c_aload_n hx hb dX6_init_1385 rfl (lv_at hl 0 rfl) ?_
  refine lv_iconst (v := (4 : Int32)) hx hb dX6_init_1386 (by decide) ?_
  replace z := ob z
  obtain ⟨h1, zh1, z⟩ := z
  refine c_newa S hG hH hS hRM 2 (atype := .char) (ty := .char) rfl rfl (fun y => y) (by decide) q686 (fun _ => rfl) zh1 dX6_init_1387 (fun H locs hH hS => ?_)
  refine lv_dup hx hb dX6_init_1389 (ct_r _) ?_
  refine lv_iconst (v := (0 : Int32)) hx hb dX6_init_1390 (by decide) ?_
  refine lv_bipush (v := (104 : Int32)) hx hb dX6_init_1391 (by decide) ?_
  replace z := ob z
  obtain ⟨h2, zh2, z⟩ := z
  refine c_cast S hG hH hS zh2 dX6_init_1393 (fun H locs hH hS => ?_)
  refine lv_dup hx hb dX6_init_1394 (ct_r _) ?_
  refine lv_iconst (v := (1 : Int32)) hx hb dX6_init_1395 (by decide) ?_
  refine lv_bipush (v := (111 : Int32)) hx hb dX6_init_1396 (by decide) ?_
  replace z := ob z
  obtain ⟨h3, zh3, z⟩ := z
  refine c_cast S hG hH hS zh3 dX6_init_1398 (fun H locs hH hS => ?_)
  refine lv_dup hx hb dX6_init_1399 (ct_r _) ?_
  refine lv_iconst (v := (2 : Int32)) hx hb dX6_init_1400 (by decide) ?_
  refine lv_bipush (v := (117 : Int32)) hx hb dX6_init_1401 (by decide) ?_
  replace z := ob z
  obtain ⟨h4, zh4, z⟩ := z
  refine c_cast S hG hH hS zh4 dX6_init_1403 (fun H locs hH hS => ?_)
  refine lv_dup hx hb dX6_init_1404 (ct_r _) ?_
  refine lv_iconst (v := (3 : Int32)) hx hb dX6_init_1405 (by decide) ?_
  refine lv_bipush (v := (114 : Int32)) hx hb dX6_init_1406 (by decide) ?_
  replace z := ob z
  obtain ⟨h5, zh5, z⟩ := z
  refine c_cast S hG hH hS zh5 dX6_init_1408 (fun H locs hH hS => ?_)
  replace z := ob z
  obtain ⟨h6, zh6, z⟩ := z
  refine c_putF S hG hH hS (ci := 22) (k := 83) rfl in_X6 tyX6 tyX6_ok nmX6 (Nat.le_of_ble_eq_true rfl) q1815 (fun _ y => y) rfl hnm rfl (ty := .array .char) rfl (nr_a _) (ft_a _) zh6 dX6_init_1409 (fun H locs hH hS => ?_)
  refine c_aload_n hx hb dX6_init_1412 rfl (lv_at hl 0 rfl) ?_
  refine lv_iconst (v := (5 : Int32)) hx hb dX6_init_1413 (by decide) ?_
  replace z := ob z
  obtain ⟨h7, zh7, z⟩ := z
  refine c_newa S hG hH hS hRM 2 (atype := .char) (ty := .char) rfl rfl (fun y => y) (by decide) q686 (fun _ => rfl) zh7 dX6_init_1414 (fun H locs hH hS => ?_)
  refine lv_dup hx hb dX6_init_1416 (ct_r _) ?_
  refine lv_iconst (v := (0 : Int32)) hx hb dX6_init_1417 (by decide) ?_
  refine lv_bipush (v := (116 : Int32)) hx hb dX6_init_1418 (by decide) ?_
  replace z := ob z
  obtain ⟨h8, zh8, z⟩ := z
  refine c_cast S hG hH hS zh8 dX6_init_1420 (fun H locs hH hS => ?_)
  refine lv_dup hx hb dX6_init_1421 (ct_r _) ?_
  refine lv_iconst (v := (1 : Int32)) hx hb dX6_init_1422 (by decide) ?_
  refine lv_bipush (v := (97 : Int32)) hx hb dX6_init_1423 (by decide) ?_
  replace z := ob z
  obtain ⟨h9, zh9, z⟩ := z
  refine c_cast S hG hH hS zh9 dX6_init_1425 (fun H locs hH hS => ?_)
  refine lv_dup hx hb dX6_init_1426 (ct_r _) ?_
  refine lv_iconst (v := (2 : Int32)) hx hb dX6_init_1427 (by decide) ?_
  refine lv_bipush (v := (115 : Int32)) hx hb dX6_init_1428 (by decide) ?_
  replace z := ob z
  obtain ⟨h10, zh10, z⟩ := z
  refine c_cast S hG hH hS zh10 dX6_init_1430 (fun H locs hH hS => ?_)
  refine lv_dup hx hb dX6_init_1431 (ct_r _) ?_
  refine lv_iconst (v := (3 : Int32)) hx hb dX6_init_1432 (by decide) ?_
  refine lv_bipush (v := (116 : Int32)) hx hb dX6_init_1433 (by decide) ?_
  replace z := ob z
  obtain ⟨h11, zh11, z⟩ := z
  refine c_cast S hG hH hS zh11 dX6_init_1435 (fun H locs hH hS => ?_)
  refine lv_dup hx hb dX6_init_1436 (ct_r _) ?_
  refine lv_iconst (v := (4 : Int32)) hx hb dX6_init_1437 (by decide) ?_
  refine lv_bipush (v := (101 : Int32)) hx hb dX6_init_1438 (by decide) ?_
  replace z := ob z
  obtain ⟨h12, zh12, z⟩ := z
  refine c_cast S hG hH hS zh12 dX6_init_1440 (fun H locs hH hS => ?_)
  replace z := ob z
  obtain ⟨h13, zh13, z⟩ := z
  refine c_putF S hG hH hS (ci := 22) (k := 84) rfl in_X6 tyX6 tyX6_ok nmX6 (Nat.le_of_ble_eq_true rfl) q1816 (fun _ y => y) rfl hnm rfl (ty := .array .char) rfl (nr_a _) (ft_a _) zh13 dX6_init_1441 (fun H locs hH hS => ?_)
  refine c_aload_n hx hb dX6_init_1444 rfl (lv_at hl 0 rfl) ?_
  refine lv_bipush (v := (6 : Int32)) hx hb dX6_init_1445 (by decide) ?_
  replace z := ob z
  obtain ⟨h14, zh14, z⟩ := z
  refine c_newa S hG hH hS hRM 2 (atype := .char) (ty := .char) rfl rfl (fun y => y) (by decide) q686 (fun _ => rfl) zh14 dX6_init_1447 (fun H locs hH hS => ?_)
  refine lv_dup hx hb dX6_init_1449 (ct_r _) ?_
  refine lv_iconst (v := (0 : Int32)) hx hb dX6_init_1450 (by decide) ?_
  refine lv_bipush (v := (119 : Int32)) hx hb dX6_init_1451 (by decide) ?_
  replace z := ob z
  obtain ⟨h15, zh15, z⟩ := z
  refine c_cast S hG hH hS zh15 dX6_init_1453 (fun H locs hH hS => ?_)
  refine lv_dup hx hb dX6_init_1454 (ct_r _) ?_
  refine lv_iconst (v := (1 : Int32)) hx hb dX6_init_1455 (by decide) ?_
  refine lv_bipush (v := (101 : Int32)) hx hb dX6_init_1456 (by decide) ?_
  replace z := ob z
  obtain ⟨h16, zh16, z⟩ := z
  refine c_cast S hG hH hS zh16 dX6_init_1458 (fun H locs hH hS => ?_)
  refine lv_dup hx hb dX6_init_1459 (ct_r _) ?_
  refine lv_iconst (v := (2 : Int32)) hx hb dX6_init_1460 (by decide) ?_
  refine lv_bipush (v := (105 : Int32)) hx hb dX6_init_1461 (by decide) ?_
  replace z := ob z
  obtain ⟨h17, zh17, z⟩ := z
  refine c_cast S hG hH hS zh17 dX6_init_1463 (fun H locs hH hS => ?_)
  refine lv_dup hx hb dX6_init_1464 (ct_r _) ?_
  refine lv_iconst (v := (3 : Int32)) hx hb dX6_init_1465 (by decide) ?_
  refine lv_bipush (v := (103 : Int32)) hx hb dX6_init_1466 (by decide) ?_
  replace z := ob z
  obtain ⟨h18, zh18, z⟩ := z
  refine c_cast S hG hH hS zh18 dX6_init_1468 (fun H locs hH hS => ?_)
  refine lv_dup hx hb dX6_init_1469 (ct_r _) ?_
  refine lv_iconst (v := (4 : Int32)) hx hb dX6_init_1470 (by decide) ?_
  refine lv_bipush (v := (104 : Int32)) hx hb dX6_init_1471 (by decide) ?_
  replace z := ob z
  obtain ⟨h19, zh19, z⟩ := z
  refine c_cast S hG hH hS zh19 dX6_init_1473 (fun H locs hH hS => ?_)
  refine lv_dup hx hb dX6_init_1474 (ct_r _) ?_
  refine lv_iconst (v := (5 : Int32)) hx hb dX6_init_1475 (by decide) ?_
  refine lv_bipush (v := (116 : Int32)) hx hb dX6_init_1476 (by decide) ?_
  replace z := ob z
  obtain ⟨h20, zh20, z⟩ := z
  refine c_cast S hG hH hS zh20 dX6_init_1478 (fun H locs hH hS => ?_)
  replace z := ob z
  obtain ⟨h21, zh21, z⟩ := z
  refine c_putF S hG hH hS (ci := 22) (k := 85) rfl in_X6 tyX6 tyX6_ok nmX6 (Nat.le_of_ble_eq_true rfl) q1817 (fun _ y => y) rfl hnm rfl (ty := .array .char) rfl (nr_a _) (ft_a _) zh21 dX6_init_1479 (fun H locs hH hS => ?_)
  exact wX6_init_1482 S hr hlk hnm hG hRM h21 z _ _ hH hS _ (lv_sub hl [0] rfl)
set_option maxHeartbeats 4000000 in
theorem wX6_init_1302 {p : Program} {l : Launch} {e : Env} {s : State} {m : MethodId} {args : Array Value} {below : List Frame} {meth : Method} {c : Code} {A : Nat → Prop} {D : va_G} {ac : Nat → ClassId} {K : KE} {h0 : HS} {a0 : Nat} (S : CallFix p m c cX6_init 1 s args lw_all RX6) (hr : meth.sig.returnType = none) (hlk : meth.locks = false) (hnm : meth.name = "<init>") (hG : GK A D ac K s) (hRM : RM K s (rmC 2 40 K h0)) {x : HS} : ∀ (h : HS), fX6_init_1302 K a0 h = some x → cGo p l e (rmC 2 40 K h0) s m args below meth c A D ac K (MQ below (cQv A D ac K x) args s (K.2.2.1 - h0.2.1) (K.2.2.2 - h0.2.2) A) 1 1302 [(0, va_rf (some a0))] [] h := by
  obtain ⟨hx, hb, hml, hown, hts⟩ := id S
  intro h z H locs hH hS ls hl
  unfold fX6_init_1302 at z
  refine c_aload_n hx hb dX6_init_1302 rfl (lv_at hl 0 rfl) ?_
  refine lv_iconst (v := (2 : Int32)) hx hb dX6_init_1303 (by decide) ?_
  replace z := ob z
  obtain ⟨h1, zh1, z⟩ := z
  refine c_newa S hG hH hS hRM 2 (atype := .char) (ty := .char) rfl rfl (fun y => y) (by decide) q686 (fun _ => rfl) zh1 dX6_init_1304 (fun H locs hH hS => ?_)
  refine lv_dup hx hb dX6_init_1306 (ct_r _) ?_
  refine lv_iconst (v := (0 : Int32)) hx hb dX6_init_1307 (by decide) ?_
  refine lv_bipush (v := (111 : Int32)) hx hb dX6_init_1308 (by decide) ?_
  replace z := ob z
  obtain ⟨h2, zh2, z⟩ := z
  refine c_cast S hG hH hS zh2 dX6_init_1310 (fun H locs hH hS => ?_)
  refine lv_dup hx hb dX6_init_1311 (ct_r _) ?_
  refine lv_iconst (v := (1 : Int32)) hx hb dX6_init_1312 (by decide) ?_
  refine lv_bipush (v := (114 : Int32)) hx hb dX6_init_1313 (by decide) ?_
  replace z := ob z
  obtain ⟨h3, zh3, z⟩ := z
  refine c_cast S hG hH hS zh3 dX6_init_1315 (fun H locs hH hS => ?_)
  replace z := ob z
  obtain ⟨h4, zh4, z⟩ := z
  refine c_putF S hG hH hS (ci := 22) (k := 79) rfl in_X6 tyX6 tyX6_ok nmX6 (Nat.le_of_ble_eq_true rfl) q1811 (fun _ y => y) rfl hnm rfl (ty := .array .char) rfl (nr_a _) (ft_a _) zh4 dX6_init_1316 (fun H locs hH hS => ?_)
  refine c_aload_n hx hb dX6_init_1319 rfl (lv_at hl 0 rfl) ?_
  refine lv_iconst (v := (3 : Int32)) hx hb dX6_init_1320 (by decide) ?_
  replace z := ob z
  obtain ⟨h5, zh5, z⟩ := z
  refine c_newa S hG hH hS hRM 2 (atype := .char) (ty := .char) rfl rfl (fun y => y) (by decide) q686 (fun _ => rfl) zh5 dX6_init_1321 (fun H locs hH hS => ?_)
  refine lv_dup hx hb dX6_init_1323 (ct_r _) ?_
  refine lv_iconst (v := (0 : Int32)) hx hb dX6_init_1324 (by decide) ?_
  refine lv_bipush (v := (97 : Int32)) hx hb dX6_init_1325 (by decide) ?_
  replace z := ob z
  obtain ⟨h6, zh6, z⟩ := z
  refine c_cast S hG hH hS zh6 dX6_init_1327 (fun H locs hH hS => ?_)
  refine lv_dup hx hb dX6_init_1328 (ct_r _) ?_
  refine lv_iconst (v := (1 : Int32)) hx hb dX6_init_1329 (by decide) ?_
  refine lv_bipush (v := (108 : Int32)) hx hb dX6_init_1330 (by decide) ?_
  replace z := ob z
  obtain ⟨h7, zh7, z⟩ := z
  refine c_cast S hG hH hS zh7 dX6_init_1332 (fun H locs hH hS => ?_)
  refine lv_dup hx hb dX6_init_1333 (ct_r _) ?_
  refine lv_iconst (v := (2 : Int32)) hx hb dX6_init_1334 (by decide) ?_
  refine lv_bipush (v := (108 : Int32)) hx hb dX6_init_1335 (by decide) ?_
  replace z := ob z
  obtain ⟨h8, zh8, z⟩ := z
  refine c_cast S hG hH hS zh8 dX6_init_1337 (fun H locs hH hS => ?_)
  replace z := ob z
  obtain ⟨h9, zh9, z⟩ := z
  refine c_putF S hG hH hS (ci := 22) (k := 80) rfl in_X6 tyX6 tyX6_ok nmX6 (Nat.le_of_ble_eq_true rfl) q1812 (fun _ y => y) rfl hnm rfl (ty := .array .char) rfl (nr_a _) (ft_a _) zh9 dX6_init_1338 (fun H locs hH hS => ?_)
  refine c_aload_n hx hb dX6_init_1341 rfl (lv_at hl 0 rfl) ?_
  refine lv_iconst (v := (3 : Int32)) hx hb dX6_init_1342 (by decide) ?_
  replace z := ob z
  obtain ⟨h10, zh10, z⟩ := z
  refine c_newa S hG hH hS hRM 2 (atype := .char) (ty := .char) rfl rfl (fun y => y) (by decide) q686 (fun _ => rfl) zh10 dX6_init_1343 (fun H locs hH hS => ?_)
  refine lv_dup hx hb dX6_init_1345 (ct_r _) ?_
  refine lv_iconst (v := (0 : Int32)) hx hb dX6_init_1346 (by decide) ?_
  refine lv_bipush (v := (109 : Int32)) hx hb dX6_init_1347 (by decide) ?_
  replace z := ob z
  obtain ⟨h11, zh11, z⟩ := z
  refine c_cast S hG hH hS zh11 dX6_init_1349 (fun H locs hH hS => ?_)
  refine lv_dup hx hb dX6_init_1350 (ct_r _) ?_
  refine lv_iconst (v := (1 : Int32)) hx hb dX6_init_1351 (by decide) ?_
  refine lv_bipush (v := (105 : Int32)) hx hb dX6_init_1352 (by decide) ?_
  replace z := ob z
  obtain ⟨h12, zh12, z⟩ := z
  refine c_cast S hG hH hS zh12 dX6_init_1354 (fun H locs hH hS => ?_)
  refine lv_dup hx hb dX6_init_1355 (ct_r _) ?_
  refine lv_iconst (v := (2 : Int32)) hx hb dX6_init_1356 (by decide) ?_
  refine lv_bipush (v := (110 : Int32)) hx hb dX6_init_1357 (by decide) ?_
  replace z := ob z
  obtain ⟨h13, zh13, z⟩ := z
  refine c_cast S hG hH hS zh13 dX6_init_1359 (fun H locs hH hS => ?_)
  replace z := ob z
  obtain ⟨h14, zh14, z⟩ := z
  refine c_putF S hG hH hS (ci := 22) (k := 81) rfl in_X6 tyX6 tyX6_ok nmX6 (Nat.le_of_ble_eq_true rfl) q1813 (fun _ y => y) rfl hnm rfl (ty := .array .char) rfl (nr_a _) (ft_a _) zh14 dX6_init_1360 (fun H locs hH hS => ?_)
  refine c_aload_n hx hb dX6_init_1363 rfl (lv_at hl 0 rfl) ?_
  refine lv_iconst (v := (3 : Int32)) hx hb dX6_init_1364 (by decide) ?_
  replace z := ob z
  obtain ⟨h15, zh15, z⟩ := z
  refine c_newa S hG hH hS hRM 2 (atype := .char) (ty := .char) rfl rfl (fun y => y) (by decide) q686 (fun _ => rfl) zh15 dX6_init_1365 (fun H locs hH hS => ?_)
  refine lv_dup hx hb dX6_init_1367 (ct_r _) ?_
  refine lv_iconst (v := (0 : Int32)) hx hb dX6_init_1368 (by decide) ?_
  refine lv_bipush (v := (109 : Int32)) hx hb dX6_init_1369 (by decide) ?_
  replace z := ob z
  obtain ⟨h16, zh16, z⟩ := z
  refine c_cast S hG hH hS zh16 dX6_init_1371 (fun H locs hH hS => ?_)
  refine lv_dup hx hb dX6_init_1372 (ct_r _) ?_
  refine lv_iconst (v := (1 : Int32)) hx hb dX6_init_1373 (by decide) ?_
  refine lv_bipush (v := (97 : Int32)) hx hb dX6_init_1374 (by decide) ?_
  replace z := ob z
  obtain ⟨h17, zh17, z⟩ := z
  refine c_cast S hG hH hS zh17 dX6_init_1376 (fun H locs hH hS => ?_)
  refine lv_dup hx hb dX6_init_1377 (ct_r _) ?_
  refine lv_iconst (v := (2 : Int32)) hx hb dX6_init_1378 (by decide) ?_
  refine lv_bipush (v := (120 : Int32)) hx hb dX6_init_1379 (by decide) ?_
  replace z := ob z
  obtain ⟨h18, zh18, z⟩ := z
  refine c_cast S hG hH hS zh18 dX6_init_1381 (fun H locs hH hS => ?_)
  replace z := ob z
  obtain ⟨h19, zh19, z⟩ := z
  refine c_putF S hG hH hS (ci := 22) (k := 82) rfl in_X6 tyX6 tyX6_ok nmX6 (Nat.le_of_ble_eq_true rfl) q1814 (fun _ y => y) rfl hnm rfl (ty := .array .char) rfl (nr_a _) (ft_a _) zh19 dX6_init_1382 (fun H locs hH hS => ?_)
  exact wX6_init_1385 S hr hlk hnm hG hRM h19 z _ _ hH hS _ (lv_sub hl [0] rfl)
set_option maxHeartbeats 4000000 in
theorem wX6_init_1226 {p : Program} {l : Launch} {e : Env} {s : State} {m : MethodId} {args : Array Value} {below : List Frame} {meth : Method} {c : Code} {A : Nat → Prop} {D : va_G} {ac : Nat → ClassId} {K : KE} {h0 : HS} {a0 : Nat} (S : CallFix p m c cX6_init 1 s args lw_all RX6) (hr : meth.sig.returnType = none) (hlk : meth.locks = false) (hnm : meth.name = "<init>") (hG : GK A D ac K s) (hRM : RM K s (rmC 2 40 K h0)) {x : HS} : ∀ (h : HS), fX6_init_1226 K a0 h = some x → cGo p l e (rmC 2 40 K h0) s m args below meth c A D ac K (MQ below (cQv A D ac K x) args s (K.2.2.1 - h0.2.1) (K.2.2.2 - h0.2.2) A) 1 1226 [(0, va_rf (some a0))] [] h := by
  obtain ⟨hx, hb, hml, hown, hts⟩ := id S
  intro h z H locs hH hS ls hl
  unfold fX6_init_1226 at z
  refine c_aload_n hx hb dX6_init_1226 rfl (lv_at hl 0 rfl) ?_
  refine lv_iconst (v := (5 : Int32)) hx hb dX6_init_1227 (by decide) ?_
  replace z := ob z
  obtain ⟨h1, zh1, z⟩ := z
  refine c_newa S hG hH hS hRM 2 (atype := .char) (ty := .char) rfl rfl (fun y => y) (by decide) q686 (fun _ => rfl) zh1 dX6_init_1228 (fun H locs hH hS => ?_)
  refine lv_dup hx hb dX6_init_1230 (ct_r _) ?_
  refine lv_iconst (v := (0 : Int32)) hx hb dX6_init_1231 (by decide) ?_
  refine lv_bipush (v := (108 : Int32)) hx hb dX6_init_1232 (by decide) ?_
  replace z := ob z
  obtain ⟨h2, zh2, z⟩ := z
  refine c_cast S hG hH hS zh2 dX6_init_1234 (fun H locs hH hS => ?_)
  refine lv_dup hx hb dX6_init_1235 (ct_r _) ?_
  refine lv_iconst (v := (1 : Int32)) hx hb dX6_init_1236 (by decide) ?_
  refine lv_bipush (v := (101 : Int32)) hx hb dX6_init_1237 (by decide) ?_
  replace z := ob z
  obtain ⟨h3, zh3, z⟩ := z
  refine c_cast S hG hH hS zh3 dX6_init_1239 (fun H locs hH hS => ?_)
  refine lv_dup hx hb dX6_init_1240 (ct_r _) ?_
  refine lv_iconst (v := (2 : Int32)) hx hb dX6_init_1241 (by decide) ?_
  refine lv_bipush (v := (97 : Int32)) hx hb dX6_init_1242 (by decide) ?_
  replace z := ob z
  obtain ⟨h4, zh4, z⟩ := z
  refine c_cast S hG hH hS zh4 dX6_init_1244 (fun H locs hH hS => ?_)
  refine lv_dup hx hb dX6_init_1245 (ct_r _) ?_
  refine lv_iconst (v := (3 : Int32)) hx hb dX6_init_1246 (by decide) ?_
  refine lv_bipush (v := (115 : Int32)) hx hb dX6_init_1247 (by decide) ?_
  replace z := ob z
  obtain ⟨h5, zh5, z⟩ := z
  refine c_cast S hG hH hS zh5 dX6_init_1249 (fun H locs hH hS => ?_)
  refine lv_dup hx hb dX6_init_1250 (ct_r _) ?_
  refine lv_iconst (v := (4 : Int32)) hx hb dX6_init_1251 (by decide) ?_
  refine lv_bipush (v := (116 : Int32)) hx hb dX6_init_1252 (by decide) ?_
  replace z := ob z
  obtain ⟨h6, zh6, z⟩ := z
  refine c_cast S hG hH hS zh6 dX6_init_1254 (fun H locs hH hS => ?_)
  replace z := ob z
  obtain ⟨h7, zh7, z⟩ := z
  refine c_putF S hG hH hS (ci := 22) (k := 76) rfl in_X6 tyX6 tyX6_ok nmX6 (Nat.le_of_ble_eq_true rfl) q1808 (fun _ y => y) rfl hnm rfl (ty := .array .char) rfl (nr_a _) (ft_a _) zh7 dX6_init_1255 (fun H locs hH hS => ?_)
  refine c_aload_n hx hb dX6_init_1258 rfl (lv_at hl 0 rfl) ?_
  refine lv_iconst (v := (3 : Int32)) hx hb dX6_init_1259 (by decide) ?_
  replace z := ob z
  obtain ⟨h8, zh8, z⟩ := z
  refine c_newa S hG hH hS hRM 2 (atype := .char) (ty := .char) rfl rfl (fun y => y) (by decide) q686 (fun _ => rfl) zh8 dX6_init_1260 (fun H locs hH hS => ?_)
  refine lv_dup hx hb dX6_init_1262 (ct_r _) ?_
  refine lv_iconst (v := (0 : Int32)) hx hb dX6_init_1263 (by decide) ?_
  refine lv_bipush (v := (110 : Int32)) hx hb dX6_init_1264 (by decide) ?_
  replace z := ob z
  obtain ⟨h9, zh9, z⟩ := z
  refine c_cast S hG hH hS zh9 dX6_init_1266 (fun H locs hH hS => ?_)
  refine lv_dup hx hb dX6_init_1267 (ct_r _) ?_
  refine lv_iconst (v := (1 : Int32)) hx hb dX6_init_1268 (by decide) ?_
  refine lv_bipush (v := (111 : Int32)) hx hb dX6_init_1269 (by decide) ?_
  replace z := ob z
  obtain ⟨h10, zh10, z⟩ := z
  refine c_cast S hG hH hS zh10 dX6_init_1271 (fun H locs hH hS => ?_)
  refine lv_dup hx hb dX6_init_1272 (ct_r _) ?_
  refine lv_iconst (v := (2 : Int32)) hx hb dX6_init_1273 (by decide) ?_
  refine lv_bipush (v := (116 : Int32)) hx hb dX6_init_1274 (by decide) ?_
  replace z := ob z
  obtain ⟨h11, zh11, z⟩ := z
  refine c_cast S hG hH hS zh11 dX6_init_1276 (fun H locs hH hS => ?_)
  replace z := ob z
  obtain ⟨h12, zh12, z⟩ := z
  refine c_putF S hG hH hS (ci := 22) (k := 77) rfl in_X6 tyX6 tyX6_ok nmX6 (Nat.le_of_ble_eq_true rfl) q1809 (fun _ y => y) rfl hnm rfl (ty := .array .char) rfl (nr_a _) (ft_a _) zh12 dX6_init_1277 (fun H locs hH hS => ?_)
  refine c_aload_n hx hb dX6_init_1280 rfl (lv_at hl 0 rfl) ?_
  refine lv_iconst (v := (3 : Int32)) hx hb dX6_init_1281 (by decide) ?_
  replace z := ob z
  obtain ⟨h13, zh13, z⟩ := z
  refine c_newa S hG hH hS hRM 2 (atype := .char) (ty := .char) rfl rfl (fun y => y) (by decide) q686 (fun _ => rfl) zh13 dX6_init_1282 (fun H locs hH hS => ?_)
  refine lv_dup hx hb dX6_init_1284 (ct_r _) ?_
  refine lv_iconst (v := (0 : Int32)) hx hb dX6_init_1285 (by decide) ?_
  refine lv_bipush (v := (97 : Int32)) hx hb dX6_init_1286 (by decide) ?_
  replace z := ob z
  obtain ⟨h14, zh14, z⟩ := z
  refine c_cast S hG hH hS zh14 dX6_init_1288 (fun H locs hH hS => ?_)
  refine lv_dup hx hb dX6_init_1289 (ct_r _) ?_
  refine lv_iconst (v := (1 : Int32)) hx hb dX6_init_1290 (by decide) ?_
  refine lv_bipush (v := (110 : Int32)) hx hb dX6_init_1291 (by decide) ?_
  replace z := ob z
  obtain ⟨h15, zh15, z⟩ := z
  refine c_cast S hG hH hS zh15 dX6_init_1293 (fun H locs hH hS => ?_)
  refine lv_dup hx hb dX6_init_1294 (ct_r _) ?_
  refine lv_iconst (v := (2 : Int32)) hx hb dX6_init_1295 (by decide) ?_
  refine lv_bipush (v := (100 : Int32)) hx hb dX6_init_1296 (by decide) ?_
  replace z := ob z
  obtain ⟨h16, zh16, z⟩ := z
  refine c_cast S hG hH hS zh16 dX6_init_1298 (fun H locs hH hS => ?_)
  replace z := ob z
  obtain ⟨h17, zh17, z⟩ := z
  refine c_putF S hG hH hS (ci := 22) (k := 78) rfl in_X6 tyX6 tyX6_ok nmX6 (Nat.le_of_ble_eq_true rfl) q1810 (fun _ y => y) rfl hnm rfl (ty := .array .char) rfl (nr_a _) (ft_a _) zh17 dX6_init_1299 (fun H locs hH hS => ?_)
  exact wX6_init_1302 S hr hlk hnm hG hRM h17 z _ _ hH hS _ (lv_sub hl [0] rfl)
set_option maxHeartbeats 4000000 in
theorem wX6_init_1135 {p : Program} {l : Launch} {e : Env} {s : State} {m : MethodId} {args : Array Value} {below : List Frame} {meth : Method} {c : Code} {A : Nat → Prop} {D : va_G} {ac : Nat → ClassId} {K : KE} {h0 : HS} {a0 : Nat} (S : CallFix p m c cX6_init 1 s args lw_all RX6) (hr : meth.sig.returnType = none) (hlk : meth.locks = false) (hnm : meth.name = "<init>") (hG : GK A D ac K s) (hRM : RM K s (rmC 2 40 K h0)) {x : HS} : ∀ (h : HS), fX6_init_1135 K a0 h = some x → cGo p l e (rmC 2 40 K h0) s m args below meth c A D ac K (MQ below (cQv A D ac K x) args s (K.2.2.1 - h0.2.1) (K.2.2.2 - h0.2.2) A) 1 1135 [(0, va_rf (some a0))] [] h := by
  obtain ⟨hx, hb, hml, hown, hts⟩ := id S
  intro h z H locs hH hS ls hl
  unfold fX6_init_1135 at z
  refine c_aload_n hx hb dX6_init_1135 rfl (lv_at hl 0 rfl) ?_
  refine lv_iconst (v := (5 : Int32)) hx hb dX6_init_1136 (by decide) ?_
  replace z := ob z
  obtain ⟨h1, zh1, z⟩ := z
  refine c_newa S hG hH hS hRM 2 (atype := .char) (ty := .char) rfl rfl (fun y => y) (by decide) q686 (fun _ => rfl) zh1 dX6_init_1137 (fun H locs hH hS => ?_)
  refine lv_dup hx hb dX6_init_1139 (ct_r _) ?_
  refine lv_iconst (v := (0 : Int32)) hx hb dX6_init_1140 (by decide) ?_
  refine lv_bipush (v := (111 : Int32)) hx hb dX6_init_1141 (by decide) ?_
  replace z := ob z
  obtain ⟨h2, zh2, z⟩ := z
  refine c_cast S hG hH hS zh2 dX6_init_1143 (fun H locs hH hS => ?_)
  refine lv_dup hx hb dX6_init_1144 (ct_r _) ?_
  refine lv_iconst (v := (1 : Int32)) hx hb dX6_init_1145 (by decide) ?_
  refine lv_bipush (v := (102 : Int32)) hx hb dX6_init_1146 (by decide) ?_
  replace z := ob z
  obtain ⟨h3, zh3, z⟩ := z
  refine c_cast S hG hH hS zh3 dX6_init_1148 (fun H locs hH hS => ?_)
  refine lv_dup hx hb dX6_init_1149 (ct_r _) ?_
  refine lv_iconst (v := (2 : Int32)) hx hb dX6_init_1150 (by decide) ?_
  refine lv_bipush (v := (116 : Int32)) hx hb dX6_init_1151 (by decide) ?_
  replace z := ob z
  obtain ⟨h4, zh4, z⟩ := z
  refine c_cast S hG hH hS zh4 dX6_init_1153 (fun H locs hH hS => ?_)
  refine lv_dup hx hb dX6_init_1154 (ct_r _) ?_
  refine lv_iconst (v := (3 : Int32)) hx hb dX6_init_1155 (by decide) ?_
  refine lv_bipush (v := (101 : Int32)) hx hb dX6_init_1156 (by decide) ?_
  replace z := ob z
  obtain ⟨h5, zh5, z⟩ := z
  refine c_cast S hG hH hS zh5 dX6_init_1158 (fun H locs hH hS => ?_)
  refine lv_dup hx hb dX6_init_1159 (ct_r _) ?_
  refine lv_iconst (v := (4 : Int32)) hx hb dX6_init_1160 (by decide) ?_
  refine lv_bipush (v := (110 : Int32)) hx hb dX6_init_1161 (by decide) ?_
  replace z := ob z
  obtain ⟨h6, zh6, z⟩ := z
  refine c_cast S hG hH hS zh6 dX6_init_1163 (fun H locs hH hS => ?_)
  replace z := ob z
  obtain ⟨h7, zh7, z⟩ := z
  refine c_putF S hG hH hS (ci := 22) (k := 73) rfl in_X6 tyX6 tyX6_ok nmX6 (Nat.le_of_ble_eq_true rfl) q1805 (fun _ y => y) rfl hnm rfl (ty := .array .char) rfl (nr_a _) (ft_a _) zh7 dX6_init_1164 (fun H locs hH hS => ?_)
  refine c_aload_n hx hb dX6_init_1167 rfl (lv_at hl 0 rfl) ?_
  refine lv_iconst (v := (5 : Int32)) hx hb dX6_init_1168 (by decide) ?_
  replace z := ob z
  obtain ⟨h8, zh8, z⟩ := z
  refine c_newa S hG hH hS hRM 2 (atype := .char) (ty := .char) rfl rfl (fun y => y) (by decide) q686 (fun _ => rfl) zh8 dX6_init_1169 (fun H locs hH hS => ?_)
  refine lv_dup hx hb dX6_init_1171 (ct_r _) ?_
  refine lv_iconst (v := (0 : Int32)) hx hb dX6_init_1172 (by decide) ?_
  refine lv_bipush (v := (116 : Int32)) hx hb dX6_init_1173 (by decide) ?_
  replace z := ob z
  obtain ⟨h9, zh9, z⟩ := z
  refine c_cast S hG hH hS zh9 dX6_init_1175 (fun H locs hH hS => ?_)
  refine lv_dup hx hb dX6_init_1176 (ct_r _) ?_
  refine lv_iconst (v := (1 : Int32)) hx hb dX6_init_1177 (by decide) ?_
  refine lv_bipush (v := (111 : Int32)) hx hb dX6_init_1178 (by decide) ?_
  replace z := ob z
  obtain ⟨h10, zh10, z⟩ := z
  refine c_cast S hG hH hS zh10 dX6_init_1180 (fun H locs hH hS => ?_)
  refine lv_dup hx hb dX6_init_1181 (ct_r _) ?_
  refine lv_iconst (v := (2 : Int32)) hx hb dX6_init_1182 (by decide) ?_
  refine lv_bipush (v := (116 : Int32)) hx hb dX6_init_1183 (by decide) ?_
  replace z := ob z
  obtain ⟨h11, zh11, z⟩ := z
  refine c_cast S hG hH hS zh11 dX6_init_1185 (fun H locs hH hS => ?_)
  refine lv_dup hx hb dX6_init_1186 (ct_r _) ?_
  refine lv_iconst (v := (3 : Int32)) hx hb dX6_init_1187 (by decide) ?_
  refine lv_bipush (v := (97 : Int32)) hx hb dX6_init_1188 (by decide) ?_
  replace z := ob z
  obtain ⟨h12, zh12, z⟩ := z
  refine c_cast S hG hH hS zh12 dX6_init_1190 (fun H locs hH hS => ?_)
  refine lv_dup hx hb dX6_init_1191 (ct_r _) ?_
  refine lv_iconst (v := (4 : Int32)) hx hb dX6_init_1192 (by decide) ?_
  refine lv_bipush (v := (108 : Int32)) hx hb dX6_init_1193 (by decide) ?_
  replace z := ob z
  obtain ⟨h13, zh13, z⟩ := z
  refine c_cast S hG hH hS zh13 dX6_init_1195 (fun H locs hH hS => ?_)
  replace z := ob z
  obtain ⟨h14, zh14, z⟩ := z
  refine c_putF S hG hH hS (ci := 22) (k := 74) rfl in_X6 tyX6 tyX6_ok nmX6 (Nat.le_of_ble_eq_true rfl) q1806 (fun _ y => y) rfl hnm rfl (ty := .array .char) rfl (nr_a _) (ft_a _) zh14 dX6_init_1196 (fun H locs hH hS => ?_)
  refine c_aload_n hx hb dX6_init_1199 rfl (lv_at hl 0 rfl) ?_
  refine lv_iconst (v := (4 : Int32)) hx hb dX6_init_1200 (by decide) ?_
  replace z := ob z
  obtain ⟨h15, zh15, z⟩ := z
  refine c_newa S hG hH hS hRM 2 (atype := .char) (ty := .char) rfl rfl (fun y => y) (by decide) q686 (fun _ => rfl) zh15 dX6_init_1201 (fun H locs hH hS => ?_)
  refine lv_dup hx hb dX6_init_1203 (ct_r _) ?_
  refine lv_iconst (v := (0 : Int32)) hx hb dX6_init_1204 (by decide) ?_
  refine lv_bipush (v := (109 : Int32)) hx hb dX6_init_1205 (by decide) ?_
  replace z := ob z
  obtain ⟨h16, zh16, z⟩ := z
  refine c_cast S hG hH hS zh16 dX6_init_1207 (fun H locs hH hS => ?_)
  refine lv_dup hx hb dX6_init_1208 (ct_r _) ?_
  refine lv_iconst (v := (1 : Int32)) hx hb dX6_init_1209 (by decide) ?_
  refine lv_bipush (v := (111 : Int32)) hx hb dX6_init_1210 (by decide) ?_
  replace z := ob z
  obtain ⟨h17, zh17, z⟩ := z
  refine c_cast S hG hH hS zh17 dX6_init_1212 (fun H locs hH hS => ?_)
  refine lv_dup hx hb dX6_init_1213 (ct_r _) ?_
  refine lv_iconst (v := (2 : Int32)) hx hb dX6_init_1214 (by decide) ?_
  refine lv_bipush (v := (115 : Int32)) hx hb dX6_init_1215 (by decide) ?_
  replace z := ob z
  obtain ⟨h18, zh18, z⟩ := z
  refine c_cast S hG hH hS zh18 dX6_init_1217 (fun H locs hH hS => ?_)
  refine lv_dup hx hb dX6_init_1218 (ct_r _) ?_
  refine lv_iconst (v := (3 : Int32)) hx hb dX6_init_1219 (by decide) ?_
  refine lv_bipush (v := (116 : Int32)) hx hb dX6_init_1220 (by decide) ?_
  replace z := ob z
  obtain ⟨h19, zh19, z⟩ := z
  refine c_cast S hG hH hS zh19 dX6_init_1222 (fun H locs hH hS => ?_)
  replace z := ob z
  obtain ⟨h20, zh20, z⟩ := z
  refine c_putF S hG hH hS (ci := 22) (k := 75) rfl in_X6 tyX6 tyX6_ok nmX6 (Nat.le_of_ble_eq_true rfl) q1807 (fun _ y => y) rfl hnm rfl (ty := .array .char) rfl (nr_a _) (ft_a _) zh20 dX6_init_1223 (fun H locs hH hS => ?_)
  exact wX6_init_1226 S hr hlk hnm hG hRM h20 z _ _ hH hS _ (lv_sub hl [0] rfl)
set_option maxHeartbeats 4000000 in
theorem wX6_init_1038 {p : Program} {l : Launch} {e : Env} {s : State} {m : MethodId} {args : Array Value} {below : List Frame} {meth : Method} {c : Code} {A : Nat → Prop} {D : va_G} {ac : Nat → ClassId} {K : KE} {h0 : HS} {a0 : Nat} (S : CallFix p m c cX6_init 1 s args lw_all RX6) (hr : meth.sig.returnType = none) (hlk : meth.locks = false) (hnm : meth.name = "<init>") (hG : GK A D ac K s) (hRM : RM K s (rmC 2 40 K h0)) {x : HS} : ∀ (h : HS), fX6_init_1038 K a0 h = some x → cGo p l e (rmC 2 40 K h0) s m args below meth c A D ac K (MQ below (cQv A D ac K x) args s (K.2.2.1 - h0.2.1) (K.2.2.2 - h0.2.2) A) 1 1038 [(0, va_rf (some a0))] [] h := by
  obtain ⟨hx, hb, hml, hown, hts⟩ := id S
  intro h z H locs hH hS ls hl
  unfold fX6_init_1038 at z
  refine c_aload_n hx hb dX6_init_1038 rfl (lv_at hl 0 rfl) ?_
  refine lv_iconst (v := (5 : Int32)) hx hb dX6_init_1039 (by decide) ?_
  replace z := ob z
  obtain ⟨h1, zh1, z⟩ := z
  refine c_newa S hG hH hS hRM 0 (atype := .int) (ty := .int) rfl rfl (fun y => y) (by decide) q473 (fun _ => rfl) zh1 dX6_init_1040 (fun H locs hH hS => ?_)
  replace z := ob z
  obtain ⟨h2, zh2, z⟩ := z
  refine c_putF S hG hH hS (ci := 22) (k := 63) rfl in_X6 tyX6 tyX6_ok nmX6 (Nat.le_of_ble_eq_true rfl) q1795 (fun _ y => y) rfl hnm rfl (ty := .array .int) rfl (nr_a _) (ft_a _) zh2 dX6_init_1042 (fun H locs hH hS => ?_)
  refine c_aload_n hx hb dX6_init_1045 rfl (lv_at hl 0 rfl) ?_
  refine lv_sipush (v := (160 : Int32)) hx hb dX6_init_1046 (by decide) ?_
  replace z := ob z
  obtain ⟨h3, zh3, z⟩ := z
  refine c_newa S hG hH hS hRM 1 (atype := .long) (ty := .long) rfl rfl (fun y => y) (by decide) q420 (fun _ => rfl) zh3 dX6_init_1049 (fun H locs hH hS => ?_)
  replace z := ob z
  obtain ⟨h4, zh4, z⟩ := z
  refine c_putF S hG hH hS (ci := 22) (k := 64) rfl in_X6 tyX6 tyX6_ok nmX6 (Nat.le_of_ble_eq_true rfl) q1796 (fun _ y => y) rfl hnm rfl (ty := .array .long) rfl (nr_a _) (ft_a _) zh4 dX6_init_1051 (fun H locs hH hS => ?_)
  refine c_aload_n hx hb dX6_init_1054 rfl (lv_at hl 0 rfl) ?_
  refine lv_bipush (v := (48 : Int32)) hx hb dX6_init_1055 (by decide) ?_
  replace z := ob z
  obtain ⟨h5, zh5, z⟩ := z
  refine c_newa S hG hH hS hRM 0 (atype := .int) (ty := .int) rfl rfl (fun y => y) (by decide) q473 (fun _ => rfl) zh5 dX6_init_1057 (fun H locs hH hS => ?_)
  replace z := ob z
  obtain ⟨h6, zh6, z⟩ := z
  refine c_putF S hG hH hS (ci := 22) (k := 66) rfl in_X6 tyX6 tyX6_ok nmX6 (Nat.le_of_ble_eq_true rfl) q1798 (fun _ y => y) rfl hnm rfl (ty := .array .int) rfl (nr_a _) (ft_a _) zh6 dX6_init_1059 (fun H locs hH hS => ?_)
  refine c_aload_n hx hb dX6_init_1062 rfl (lv_at hl 0 rfl) ?_
  refine lv_sipush (v := (5140 : Int32)) hx hb dX6_init_1063 (by decide) ?_
  replace z := ob z
  obtain ⟨h7, zh7, z⟩ := z
  refine c_newa S hG hH hS hRM 0 (atype := .int) (ty := .int) rfl rfl (fun y => y) (by decide) q473 (fun _ => rfl) zh7 dX6_init_1066 (fun H locs hH hS => ?_)
  replace z := ob z
  obtain ⟨h8, zh8, z⟩ := z
  refine c_putF S hG hH hS (ci := 22) (k := 67) rfl in_X6 tyX6 tyX6_ok nmX6 (Nat.le_of_ble_eq_true rfl) q1799 (fun _ y => y) rfl hnm rfl (ty := .array .int) rfl (nr_a _) (ft_a _) zh8 dX6_init_1068 (fun H locs hH hS => ?_)
  refine c_aload_n hx hb dX6_init_1071 rfl (lv_at hl 0 rfl) ?_
  refine lv_lconst (v := (1 : Int64)) hx hb dX6_init_1072 (by decide) ?_
  replace z := ob z
  obtain ⟨h9, zh9, z⟩ := z
  refine c_put S hG hH hS (ci := 22) (k := 70) rfl in_X6 tyX6 tyX6_ok nmX6 (Nat.le_of_ble_eq_true rfl) q1802 (fun _ y => y) rfl (ty := .long) rfl rfl rfl zh9 dX6_init_1073 (fun H locs hH hS => ?_)
  refine c_aload_n hx hb dX6_init_1076 rfl (lv_at hl 0 rfl) ?_
  refine lv_iconst (v := (5 : Int32)) hx hb dX6_init_1077 (by decide) ?_
  replace z := ob z
  obtain ⟨h10, zh10, z⟩ := z
  refine c_newa S hG hH hS hRM 2 (atype := .char) (ty := .char) rfl rfl (fun y => y) (by decide) q686 (fun _ => rfl) zh10 dX6_init_1078 (fun H locs hH hS => ?_)
  refine lv_dup hx hb dX6_init_1080 (ct_r _) ?_
  refine lv_iconst (v := (0 : Int32)) hx hb dX6_init_1081 (by decide) ?_
  refine lv_bipush (v := (102 : Int32)) hx hb dX6_init_1082 (by decide) ?_
  replace z := ob z
  obtain ⟨h11, zh11, z⟩ := z
  refine c_cast S hG hH hS zh11 dX6_init_1084 (fun H locs hH hS => ?_)
  refine lv_dup hx hb dX6_init_1085 (ct_r _) ?_
  refine lv_iconst (v := (1 : Int32)) hx hb dX6_init_1086 (by decide) ?_
  refine lv_bipush (v := (105 : Int32)) hx hb dX6_init_1087 (by decide) ?_
  replace z := ob z
  obtain ⟨h12, zh12, z⟩ := z
  refine c_cast S hG hH hS zh12 dX6_init_1089 (fun H locs hH hS => ?_)
  refine lv_dup hx hb dX6_init_1090 (ct_r _) ?_
  refine lv_iconst (v := (2 : Int32)) hx hb dX6_init_1091 (by decide) ?_
  refine lv_bipush (v := (114 : Int32)) hx hb dX6_init_1092 (by decide) ?_
  replace z := ob z
  obtain ⟨h13, zh13, z⟩ := z
  refine c_cast S hG hH hS zh13 dX6_init_1094 (fun H locs hH hS => ?_)
  refine lv_dup hx hb dX6_init_1095 (ct_r _) ?_
  refine lv_iconst (v := (3 : Int32)) hx hb dX6_init_1096 (by decide) ?_
  refine lv_bipush (v := (115 : Int32)) hx hb dX6_init_1097 (by decide) ?_
  replace z := ob z
  obtain ⟨h14, zh14, z⟩ := z
  refine c_cast S hG hH hS zh14 dX6_init_1099 (fun H locs hH hS => ?_)
  refine lv_dup hx hb dX6_init_1100 (ct_r _) ?_
  refine lv_iconst (v := (4 : Int32)) hx hb dX6_init_1101 (by decide) ?_
  refine lv_bipush (v := (116 : Int32)) hx hb dX6_init_1102 (by decide) ?_
  replace z := ob z
  obtain ⟨h15, zh15, z⟩ := z
  refine c_cast S hG hH hS zh15 dX6_init_1104 (fun H locs hH hS => ?_)
  replace z := ob z
  obtain ⟨h16, zh16, z⟩ := z
  refine c_putF S hG hH hS (ci := 22) (k := 71) rfl in_X6 tyX6 tyX6_ok nmX6 (Nat.le_of_ble_eq_true rfl) q1803 (fun _ y => y) rfl hnm rfl (ty := .array .char) rfl (nr_a _) (ft_a _) zh16 dX6_init_1105 (fun H locs hH hS => ?_)
  refine c_aload_n hx hb dX6_init_1108 rfl (lv_at hl 0 rfl) ?_
  refine lv_iconst (v := (4 : Int32)) hx hb dX6_init_1109 (by decide) ?_
  replace z := ob z
  obtain ⟨h17, zh17, z⟩ := z
  refine c_newa S hG hH hS hRM 2 (atype := .char) (ty := .char) rfl rfl (fun y => y) (by decide) q686 (fun _ => rfl) zh17 dX6_init_1110 (fun H locs hH hS => ?_)
  refine lv_dup hx hb dX6_init_1112 (ct_r _) ?_
  refine lv_iconst (v := (0 : Int32)) hx hb dX6_init_1113 (by decide) ?_
  refine lv_bipush (v := (108 : Int32)) hx hb dX6_init_1114 (by decide) ?_
  replace z := ob z
  obtain ⟨h18, zh18, z⟩ := z
  refine c_cast S hG hH hS zh18 dX6_init_1116 (fun H locs hH hS => ?_)
  refine lv_dup hx hb dX6_init_1117 (ct_r _) ?_
  refine lv_iconst (v := (1 : Int32)) hx hb dX6_init_1118 (by decide) ?_
  refine lv_bipush (v := (97 : Int32)) hx hb dX6_init_1119 (by decide) ?_
  replace z := ob z
  obtain ⟨h19, zh19, z⟩ := z
  refine c_cast S hG hH hS zh19 dX6_init_1121 (fun H locs hH hS => ?_)
  refine lv_dup hx hb dX6_init_1122 (ct_r _) ?_
  refine lv_iconst (v := (2 : Int32)) hx hb dX6_init_1123 (by decide) ?_
  refine lv_bipush (v := (115 : Int32)) hx hb dX6_init_1124 (by decide) ?_
  replace z := ob z
  obtain ⟨h20, zh20, z⟩ := z
  refine c_cast S hG hH hS zh20 dX6_init_1126 (fun H locs hH hS => ?_)
  refine lv_dup hx hb dX6_init_1127 (ct_r _) ?_
  refine lv_iconst (v := (3 : Int32)) hx hb dX6_init_1128 (by decide) ?_
  refine lv_bipush (v := (116 : Int32)) hx hb dX6_init_1129 (by decide) ?_
  replace z := ob z
  obtain ⟨h21, zh21, z⟩ := z
  refine c_cast S hG hH hS zh21 dX6_init_1131 (fun H locs hH hS => ?_)
  replace z := ob z
  obtain ⟨h22, zh22, z⟩ := z
  refine c_putF S hG hH hS (ci := 22) (k := 72) rfl in_X6 tyX6 tyX6_ok nmX6 (Nat.le_of_ble_eq_true rfl) q1804 (fun _ y => y) rfl hnm rfl (ty := .array .char) rfl (nr_a _) (ft_a _) zh22 dX6_init_1132 (fun H locs hH hS => ?_)
  exact wX6_init_1135 S hr hlk hnm hG hRM h22 z _ _ hH hS _ (lv_sub hl [0] rfl)
set_option maxHeartbeats 4000000 in
theorem wX6_init_958 {p : Program} {l : Launch} {e : Env} {s : State} {m : MethodId} {args : Array Value} {below : List Frame} {meth : Method} {c : Code} {A : Nat → Prop} {D : va_G} {ac : Nat → ClassId} {K : KE} {h0 : HS} {a0 : Nat} (S : CallFix p m c cX6_init 1 s args lw_all RX6) (hr : meth.sig.returnType = none) (hlk : meth.locks = false) (hnm : meth.name = "<init>") (hG : GK A D ac K s) (hRM : RM K s (rmC 2 40 K h0)) {x : HS} : ∀ (h : HS), fX6_init_958 K a0 h = some x → cGo p l e (rmC 2 40 K h0) s m args below meth c A D ac K (MQ below (cQv A D ac K x) args s (K.2.2.1 - h0.2.1) (K.2.2.2 - h0.2.2) A) 1 958 [(0, va_rf (some a0))] [] h := by
  obtain ⟨hx, hb, hml, hown, hts⟩ := id S
  intro h z H locs hH hS ls hl
  unfold fX6_init_958 at z
  refine c_aload_n hx hb dX6_init_958 rfl (lv_at hl 0 rfl) ?_
  refine lv_bipush (v := (6 : Int32)) hx hb dX6_init_959 (by decide) ?_
  replace z := ob z
  obtain ⟨h1, zh1, z⟩ := z
  refine c_newa S hG hH hS hRM 0 (atype := .int) (ty := .int) rfl rfl (fun y => y) (by decide) q473 (fun _ => rfl) zh1 dX6_init_961 (fun H locs hH hS => ?_)
  refine lv_dup hx hb dX6_init_963 (ct_r _) ?_
  refine lv_iconst (v := (0 : Int32)) hx hb dX6_init_964 (by decide) ?_
  refine lv_iconst (v := (-1 : Int32)) hx hb dX6_init_965 (by decide) ?_
  replace z := ob z
  obtain ⟨h2, zh2, z⟩ := z
  refine c_iast S hG hH hS zh2 dX6_init_966 (fun H locs hH hS => ?_)
  refine lv_dup hx hb dX6_init_967 (ct_r _) ?_
  refine lv_iconst (v := (1 : Int32)) hx hb dX6_init_968 (by decide) ?_
  refine lv_iconst (v := (-1 : Int32)) hx hb dX6_init_969 (by decide) ?_
  replace z := ob z
  obtain ⟨h3, zh3, z⟩ := z
  refine c_iast S hG hH hS zh3 dX6_init_970 (fun H locs hH hS => ?_)
  refine lv_dup hx hb dX6_init_971 (ct_r _) ?_
  refine lv_iconst (v := (2 : Int32)) hx hb dX6_init_972 (by decide) ?_
  refine lv_iconst (v := (-1 : Int32)) hx hb dX6_init_973 (by decide) ?_
  replace z := ob z
  obtain ⟨h4, zh4, z⟩ := z
  refine c_iast S hG hH hS zh4 dX6_init_974 (fun H locs hH hS => ?_)
  refine lv_dup hx hb dX6_init_975 (ct_r _) ?_
  refine lv_iconst (v := (3 : Int32)) hx hb dX6_init_976 (by decide) ?_
  refine lv_iconst (v := (-1 : Int32)) hx hb dX6_init_977 (by decide) ?_
  replace z := ob z
  obtain ⟨h5, zh5, z⟩ := z
  refine c_iast S hG hH hS zh5 dX6_init_978 (fun H locs hH hS => ?_)
  refine lv_dup hx hb dX6_init_979 (ct_r _) ?_
  refine lv_iconst (v := (4 : Int32)) hx hb dX6_init_980 (by decide) ?_
  refine lv_iconst (v := (-1 : Int32)) hx hb dX6_init_981 (by decide) ?_
  replace z := ob z
  obtain ⟨h6, zh6, z⟩ := z
  refine c_iast S hG hH hS zh6 dX6_init_982 (fun H locs hH hS => ?_)
  refine lv_dup hx hb dX6_init_983 (ct_r _) ?_
  refine lv_iconst (v := (5 : Int32)) hx hb dX6_init_984 (by decide) ?_
  refine lv_iconst (v := (-1 : Int32)) hx hb dX6_init_985 (by decide) ?_
  replace z := ob z
  obtain ⟨h7, zh7, z⟩ := z
  refine c_iast S hG hH hS zh7 dX6_init_986 (fun H locs hH hS => ?_)
  replace z := ob z
  obtain ⟨h8, zh8, z⟩ := z
  refine c_putF S hG hH hS (ci := 22) (k := 48) rfl in_X6 tyX6 tyX6_ok nmX6 (Nat.le_of_ble_eq_true rfl) q1780 (fun _ y => y) rfl hnm rfl (ty := .array .int) rfl (nr_a _) (ft_a _) zh8 dX6_init_987 (fun H locs hH hS => ?_)
  refine c_aload_n hx hb dX6_init_990 rfl (lv_at hl 0 rfl) ?_
  refine lv_bipush (v := (6 : Int32)) hx hb dX6_init_991 (by decide) ?_
  replace z := ob z
  obtain ⟨h9, zh9, z⟩ := z
  refine c_newa S hG hH hS hRM 0 (atype := .int) (ty := .int) rfl rfl (fun y => y) (by decide) q473 (fun _ => rfl) zh9 dX6_init_993 (fun H locs hH hS => ?_)
  replace z := ob z
  obtain ⟨h10, zh10, z⟩ := z
  refine c_putF S hG hH hS (ci := 22) (k := 49) rfl in_X6 tyX6 tyX6_ok nmX6 (Nat.le_of_ble_eq_true rfl) q1781 (fun _ y => y) rfl hnm rfl (ty := .array .int) rfl (nr_a _) (ft_a _) zh10 dX6_init_995 (fun H locs hH hS => ?_)
  refine c_aload_n hx hb dX6_init_998 rfl (lv_at hl 0 rfl) ?_
  refine lv_sipush (v := (3200 : Int32)) hx hb dX6_init_999 (by decide) ?_
  replace z := ob z
  obtain ⟨h11, zh11, z⟩ := z
  refine c_newa S hG hH hS hRM 0 (atype := .int) (ty := .int) rfl rfl (fun y => y) (by decide) q473 (fun _ => rfl) zh11 dX6_init_1002 (fun H locs hH hS => ?_)
  replace z := ob z
  obtain ⟨h12, zh12, z⟩ := z
  refine c_putF S hG hH hS (ci := 22) (k := 50) rfl in_X6 tyX6 tyX6_ok nmX6 (Nat.le_of_ble_eq_true rfl) q1782 (fun _ y => y) rfl hnm rfl (ty := .array .int) rfl (nr_a _) (ft_a _) zh12 dX6_init_1004 (fun H locs hH hS => ?_)
  refine c_aload_n hx hb dX6_init_1007 rfl (lv_at hl 0 rfl) ?_
  refine lv_sipush (v := (257 : Int32)) hx hb dX6_init_1008 (by decide) ?_
  replace z := ob z
  obtain ⟨h13, zh13, z⟩ := z
  refine c_newa S hG hH hS hRM 0 (atype := .int) (ty := .int) rfl rfl (fun y => y) (by decide) q473 (fun _ => rfl) zh13 dX6_init_1011 (fun H locs hH hS => ?_)
  replace z := ob z
  obtain ⟨h14, zh14, z⟩ := z
  refine c_putF S hG hH hS (ci := 22) (k := 54) rfl in_X6 tyX6 tyX6_ok nmX6 (Nat.le_of_ble_eq_true rfl) q1786 (fun _ y => y) rfl hnm rfl (ty := .array .int) rfl (nr_a _) (ft_a _) zh14 dX6_init_1013 (fun H locs hH hS => ?_)
  refine c_aload_n hx hb dX6_init_1016 rfl (lv_at hl 0 rfl) ?_
  refine lv_bipush (v := (96 : Int32)) hx hb dX6_init_1017 (by decide) ?_
  replace z := ob z
  obtain ⟨h15, zh15, z⟩ := z
  refine c_newa S hG hH hS hRM 0 (atype := .int) (ty := .int) rfl rfl (fun y => y) (by decide) q473 (fun _ => rfl) zh15 dX6_init_1019 (fun H locs hH hS => ?_)
  replace z := ob z
  obtain ⟨h16, zh16, z⟩ := z
  refine c_putF S hG hH hS (ci := 22) (k := 55) rfl in_X6 tyX6 tyX6_ok nmX6 (Nat.le_of_ble_eq_true rfl) q1787 (fun _ y => y) rfl hnm rfl (ty := .array .int) rfl (nr_a _) (ft_a _) zh16 dX6_init_1021 (fun H locs hH hS => ?_)
  refine c_aload_n hx hb dX6_init_1024 rfl (lv_at hl 0 rfl) ?_
  refine lv_iconst (v := (5 : Int32)) hx hb dX6_init_1025 (by decide) ?_
  replace z := ob z
  obtain ⟨h17, zh17, z⟩ := z
  refine c_newa S hG hH hS hRM 0 (atype := .int) (ty := .int) rfl rfl (fun y => y) (by decide) q473 (fun _ => rfl) zh17 dX6_init_1026 (fun H locs hH hS => ?_)
  replace z := ob z
  obtain ⟨h18, zh18, z⟩ := z
  refine c_putF S hG hH hS (ci := 22) (k := 61) rfl in_X6 tyX6 tyX6_ok nmX6 (Nat.le_of_ble_eq_true rfl) q1793 (fun _ y => y) rfl hnm rfl (ty := .array .int) rfl (nr_a _) (ft_a _) zh18 dX6_init_1028 (fun H locs hH hS => ?_)
  refine c_aload_n hx hb dX6_init_1031 rfl (lv_at hl 0 rfl) ?_
  refine lv_iconst (v := (5 : Int32)) hx hb dX6_init_1032 (by decide) ?_
  replace z := ob z
  obtain ⟨h19, zh19, z⟩ := z
  refine c_newa S hG hH hS hRM 1 (atype := .long) (ty := .long) rfl rfl (fun y => y) (by decide) q420 (fun _ => rfl) zh19 dX6_init_1033 (fun H locs hH hS => ?_)
  replace z := ob z
  obtain ⟨h20, zh20, z⟩ := z
  refine c_putF S hG hH hS (ci := 22) (k := 62) rfl in_X6 tyX6 tyX6_ok nmX6 (Nat.le_of_ble_eq_true rfl) q1794 (fun _ y => y) rfl hnm rfl (ty := .array .long) rfl (nr_a _) (ft_a _) zh20 dX6_init_1035 (fun H locs hH hS => ?_)
  exact wX6_init_1038 S hr hlk hnm hG hRM h20 z _ _ hH hS _ (lv_sub hl [0] rfl)
set_option maxHeartbeats 4000000 in
theorem wX6_init_868 {p : Program} {l : Launch} {e : Env} {s : State} {m : MethodId} {args : Array Value} {below : List Frame} {meth : Method} {c : Code} {A : Nat → Prop} {D : va_G} {ac : Nat → ClassId} {K : KE} {h0 : HS} {a0 : Nat} (S : CallFix p m c cX6_init 1 s args lw_all RX6) (hr : meth.sig.returnType = none) (hlk : meth.locks = false) (hnm : meth.name = "<init>") (hG : GK A D ac K s) (hRM : RM K s (rmC 2 40 K h0)) {x : HS} : ∀ (h : HS), fX6_init_868 K a0 h = some x → cGo p l e (rmC 2 40 K h0) s m args below meth c A D ac K (MQ below (cQv A D ac K x) args s (K.2.2.1 - h0.2.1) (K.2.2.2 - h0.2.2) A) 1 868 [(0, va_rf (some a0))] [] h := by
  obtain ⟨hx, hb, hml, hown, hts⟩ := id S
  intro h z H locs hH hS ls hl
  unfold fX6_init_868 at z
  refine c_aload_n hx hb dX6_init_868 rfl (lv_at hl 0 rfl) ?_
  refine lv_bipush (v := (6 : Int32)) hx hb dX6_init_869 (by decide) ?_
  replace z := ob z
  obtain ⟨h1, zh1, z⟩ := z
  refine c_newa S hG hH hS hRM 0 (atype := .int) (ty := .int) rfl rfl (fun y => y) (by decide) q473 (fun _ => rfl) zh1 dX6_init_871 (fun H locs hH hS => ?_)
  replace z := ob z
  obtain ⟨h2, zh2, z⟩ := z
  refine c_putF S hG hH hS (ci := 22) (k := 40) rfl in_X6 tyX6 tyX6_ok nmX6 (Nat.le_of_ble_eq_true rfl) q1772 (fun _ y => y) rfl hnm rfl (ty := .array .int) rfl (nr_a _) (ft_a _) zh2 dX6_init_873 (fun H locs hH hS => ?_)
  refine c_aload_n hx hb dX6_init_876 rfl (lv_at hl 0 rfl) ?_
  refine lv_bipush (v := (48 : Int32)) hx hb dX6_init_877 (by decide) ?_
  replace z := ob z
  obtain ⟨h3, zh3, z⟩ := z
  refine c_newa S hG hH hS hRM 1 (atype := .long) (ty := .long) rfl rfl (fun y => y) (by decide) q420 (fun _ => rfl) zh3 dX6_init_879 (fun H locs hH hS => ?_)
  replace z := ob z
  obtain ⟨h4, zh4, z⟩ := z
  refine c_putF S hG hH hS (ci := 22) (k := 41) rfl in_X6 tyX6 tyX6_ok nmX6 (Nat.le_of_ble_eq_true rfl) q1773 (fun _ y => y) rfl hnm rfl (ty := .array .long) rfl (nr_a _) (ft_a _) zh4 dX6_init_881 (fun H locs hH hS => ?_)
  refine c_aload_n hx hb dX6_init_884 rfl (lv_at hl 0 rfl) ?_
  refine lv_bipush (v := (16 : Int32)) hx hb dX6_init_885 (by decide) ?_
  replace z := ob z
  obtain ⟨h5, zh5, z⟩ := z
  refine c_newa S hG hH hS hRM 0 (atype := .int) (ty := .int) rfl rfl (fun y => y) (by decide) q473 (fun _ => rfl) zh5 dX6_init_887 (fun H locs hH hS => ?_)
  replace z := ob z
  obtain ⟨h6, zh6, z⟩ := z
  refine c_putF S hG hH hS (ci := 22) (k := 42) rfl in_X6 tyX6 tyX6_ok nmX6 (Nat.le_of_ble_eq_true rfl) q1774 (fun _ y => y) rfl hnm rfl (ty := .array .int) rfl (nr_a _) (ft_a _) zh6 dX6_init_889 (fun H locs hH hS => ?_)
  refine c_aload_n hx hb dX6_init_892 rfl (lv_at hl 0 rfl) ?_
  refine lv_bipush (v := (96 : Int32)) hx hb dX6_init_893 (by decide) ?_
  replace z := ob z
  obtain ⟨h7, zh7, z⟩ := z
  refine c_newa S hG hH hS hRM 0 (atype := .int) (ty := .int) rfl rfl (fun y => y) (by decide) q473 (fun _ => rfl) zh7 dX6_init_895 (fun H locs hH hS => ?_)
  replace z := ob z
  obtain ⟨h8, zh8, z⟩ := z
  refine c_putF S hG hH hS (ci := 22) (k := 43) rfl in_X6 tyX6 tyX6_ok nmX6 (Nat.le_of_ble_eq_true rfl) q1775 (fun _ y => y) rfl hnm rfl (ty := .array .int) rfl (nr_a _) (ft_a _) zh8 dX6_init_897 (fun H locs hH hS => ?_)
  refine c_aload_n hx hb dX6_init_900 rfl (lv_at hl 0 rfl) ?_
  refine lv_bipush (v := (20 : Int32)) hx hb dX6_init_901 (by decide) ?_
  replace z := ob z
  obtain ⟨h9, zh9, z⟩ := z
  refine c_newa S hG hH hS hRM 0 (atype := .int) (ty := .int) rfl rfl (fun y => y) (by decide) q473 (fun _ => rfl) zh9 dX6_init_903 (fun H locs hH hS => ?_)
  replace z := ob z
  obtain ⟨h10, zh10, z⟩ := z
  refine c_putF S hG hH hS (ci := 22) (k := 44) rfl in_X6 tyX6 tyX6_ok nmX6 (Nat.le_of_ble_eq_true rfl) q1776 (fun _ y => y) rfl hnm rfl (ty := .array .int) rfl (nr_a _) (ft_a _) zh10 dX6_init_905 (fun H locs hH hS => ?_)
  refine c_aload_n hx hb dX6_init_908 rfl (lv_at hl 0 rfl) ?_
  refine lv_bipush (v := (60 : Int32)) hx hb dX6_init_909 (by decide) ?_
  replace z := ob z
  obtain ⟨h11, zh11, z⟩ := z
  refine c_newa S hG hH hS hRM 0 (atype := .int) (ty := .int) rfl rfl (fun y => y) (by decide) q473 (fun _ => rfl) zh11 dX6_init_911 (fun H locs hH hS => ?_)
  replace z := ob z
  obtain ⟨h12, zh12, z⟩ := z
  refine c_putF S hG hH hS (ci := 22) (k := 45) rfl in_X6 tyX6 tyX6_ok nmX6 (Nat.le_of_ble_eq_true rfl) q1777 (fun _ y => y) rfl hnm rfl (ty := .array .int) rfl (nr_a _) (ft_a _) zh12 dX6_init_913 (fun H locs hH hS => ?_)
  refine c_aload_n hx hb dX6_init_916 rfl (lv_at hl 0 rfl) ?_
  refine lv_bipush (v := (8 : Int32)) hx hb dX6_init_917 (by decide) ?_
  replace z := ob z
  obtain ⟨h13, zh13, z⟩ := z
  refine c_newa S hG hH hS hRM 0 (atype := .int) (ty := .int) rfl rfl (fun y => y) (by decide) q473 (fun _ => rfl) zh13 dX6_init_919 (fun H locs hH hS => ?_)
  refine lv_dup hx hb dX6_init_921 (ct_r _) ?_
  refine lv_iconst (v := (0 : Int32)) hx hb dX6_init_922 (by decide) ?_
  refine lv_iconst (v := (5 : Int32)) hx hb dX6_init_923 (by decide) ?_
  replace z := ob z
  obtain ⟨h14, zh14, z⟩ := z
  refine c_iast S hG hH hS zh14 dX6_init_924 (fun H locs hH hS => ?_)
  refine lv_dup hx hb dX6_init_925 (ct_r _) ?_
  refine lv_iconst (v := (1 : Int32)) hx hb dX6_init_926 (by decide) ?_
  refine lv_iconst (v := (0 : Int32)) hx hb dX6_init_927 (by decide) ?_
  replace z := ob z
  obtain ⟨h15, zh15, z⟩ := z
  refine c_iast S hG hH hS zh15 dX6_init_928 (fun H locs hH hS => ?_)
  refine lv_dup hx hb dX6_init_929 (ct_r _) ?_
  refine lv_iconst (v := (2 : Int32)) hx hb dX6_init_930 (by decide) ?_
  refine lv_iconst (v := (0 : Int32)) hx hb dX6_init_931 (by decide) ?_
  replace z := ob z
  obtain ⟨h16, zh16, z⟩ := z
  refine c_iast S hG hH hS zh16 dX6_init_932 (fun H locs hH hS => ?_)
  refine lv_dup hx hb dX6_init_933 (ct_r _) ?_
  refine lv_iconst (v := (3 : Int32)) hx hb dX6_init_934 (by decide) ?_
  refine lv_iconst (v := (0 : Int32)) hx hb dX6_init_935 (by decide) ?_
  replace z := ob z
  obtain ⟨h17, zh17, z⟩ := z
  refine c_iast S hG hH hS zh17 dX6_init_936 (fun H locs hH hS => ?_)
  refine lv_dup hx hb dX6_init_937 (ct_r _) ?_
  refine lv_iconst (v := (4 : Int32)) hx hb dX6_init_938 (by decide) ?_
  refine lv_iconst (v := (5 : Int32)) hx hb dX6_init_939 (by decide) ?_
  replace z := ob z
  obtain ⟨h18, zh18, z⟩ := z
  refine c_iast S hG hH hS zh18 dX6_init_940 (fun H locs hH hS => ?_)
  refine lv_dup hx hb dX6_init_941 (ct_r _) ?_
  refine lv_iconst (v := (5 : Int32)) hx hb dX6_init_942 (by decide) ?_
  refine lv_iconst (v := (0 : Int32)) hx hb dX6_init_943 (by decide) ?_
  replace z := ob z
  obtain ⟨h19, zh19, z⟩ := z
  refine c_iast S hG hH hS zh19 dX6_init_944 (fun H locs hH hS => ?_)
  refine lv_dup hx hb dX6_init_945 (ct_r _) ?_
  refine lv_bipush (v := (6 : Int32)) hx hb dX6_init_946 (by decide) ?_
  refine lv_iconst (v := (0 : Int32)) hx hb dX6_init_948 (by decide) ?_
  replace z := ob z
  obtain ⟨h20, zh20, z⟩ := z
  refine c_iast S hG hH hS zh20 dX6_init_949 (fun H locs hH hS => ?_)
  refine lv_dup hx hb dX6_init_950 (ct_r _) ?_
  refine lv_bipush (v := (7 : Int32)) hx hb dX6_init_951 (by decide) ?_
  refine lv_iconst (v := (0 : Int32)) hx hb dX6_init_953 (by decide) ?_
  replace z := ob z
  obtain ⟨h21, zh21, z⟩ := z
  refine c_iast S hG hH hS zh21 dX6_init_954 (fun H locs hH hS => ?_)
  replace z := ob z
  obtain ⟨h22, zh22, z⟩ := z
  refine c_putF S hG hH hS (ci := 22) (k := 47) rfl in_X6 tyX6 tyX6_ok nmX6 (Nat.le_of_ble_eq_true rfl) q1779 (fun _ y => y) rfl hnm rfl (ty := .array .int) rfl (nr_a _) (ft_a _) zh22 dX6_init_955 (fun H locs hH hS => ?_)
  exact wX6_init_958 S hr hlk hnm hG hRM h22 z _ _ hH hS _ (lv_sub hl [0] rfl)
set_option maxHeartbeats 4000000 in
theorem wX6_init_780 {p : Program} {l : Launch} {e : Env} {s : State} {m : MethodId} {args : Array Value} {below : List Frame} {meth : Method} {c : Code} {A : Nat → Prop} {D : va_G} {ac : Nat → ClassId} {K : KE} {h0 : HS} {a0 : Nat} (S : CallFix p m c cX6_init 1 s args lw_all RX6) (hr : meth.sig.returnType = none) (hlk : meth.locks = false) (hnm : meth.name = "<init>") (hG : GK A D ac K s) (hRM : RM K s (rmC 2 40 K h0)) {x : HS} : ∀ (h : HS), fX6_init_780 K a0 h = some x → cGo p l e (rmC 2 40 K h0) s m args below meth c A D ac K (MQ below (cQv A D ac K x) args s (K.2.2.1 - h0.2.1) (K.2.2.2 - h0.2.2) A) 1 780 [(0, va_rf (some a0))] [] h := by
  obtain ⟨hx, hb, hml, hown, hts⟩ := id S
  intro h z H locs hH hS ls hl
  unfold fX6_init_780 at z
  refine c_aload_n hx hb dX6_init_780 rfl (lv_at hl 0 rfl) ?_
  refine lv_iconst (v := (3 : Int32)) hx hb dX6_init_781 (by decide) ?_
  replace z := ob z
  obtain ⟨h1, zh1, z⟩ := z
  refine c_newa S hG hH hS hRM 2 (atype := .char) (ty := .char) rfl rfl (fun y => y) (by decide) q686 (fun _ => rfl) zh1 dX6_init_782 (fun H locs hH hS => ?_)
  refine lv_dup hx hb dX6_init_784 (ct_r _) ?_
  refine lv_iconst (v := (0 : Int32)) hx hb dX6_init_785 (by decide) ?_
  refine lv_bipush (v := (110 : Int32)) hx hb dX6_init_786 (by decide) ?_
  replace z := ob z
  obtain ⟨h2, zh2, z⟩ := z
  refine c_cast S hG hH hS zh2 dX6_init_788 (fun H locs hH hS => ?_)
  refine lv_dup hx hb dX6_init_789 (ct_r _) ?_
  refine lv_iconst (v := (1 : Int32)) hx hb dX6_init_790 (by decide) ?_
  refine lv_bipush (v := (111 : Int32)) hx hb dX6_init_791 (by decide) ?_
  replace z := ob z
  obtain ⟨h3, zh3, z⟩ := z
  refine c_cast S hG hH hS zh3 dX6_init_793 (fun H locs hH hS => ?_)
  refine lv_dup hx hb dX6_init_794 (ct_r _) ?_
  refine lv_iconst (v := (2 : Int32)) hx hb dX6_init_795 (by decide) ?_
  refine lv_bipush (v := (116 : Int32)) hx hb dX6_init_796 (by decide) ?_
  replace z := ob z
  obtain ⟨h4, zh4, z⟩ := z
  refine c_cast S hG hH hS zh4 dX6_init_798 (fun H locs hH hS => ?_)
  replace z := ob z
  obtain ⟨h5, zh5, z⟩ := z
  refine c_putF S hG hH hS (ci := 22) (k := 35) rfl in_X6 tyX6 tyX6_ok nmX6 (Nat.le_of_ble_eq_true rfl) q1767 (fun _ y => y) rfl hnm rfl (ty := .array .char) rfl (nr_a _) (ft_a _) zh5 dX6_init_799 (fun H locs hH hS => ?_)
  refine c_aload_n hx hb dX6_init_802 rfl (lv_at hl 0 rfl) ?_
  refine lv_iconst (v := (3 : Int32)) hx hb dX6_init_803 (by decide) ?_
  replace z := ob z
  obtain ⟨h6, zh6, z⟩ := z
  refine c_newa S hG hH hS hRM 2 (atype := .char) (ty := .char) rfl rfl (fun y => y) (by decide) q686 (fun _ => rfl) zh6 dX6_init_804 (fun H locs hH hS => ?_)
  refine lv_dup hx hb dX6_init_806 (ct_r _) ?_
  refine lv_iconst (v := (0 : Int32)) hx hb dX6_init_807 (by decide) ?_
  refine lv_bipush (v := (97 : Int32)) hx hb dX6_init_808 (by decide) ?_
  replace z := ob z
  obtain ⟨h7, zh7, z⟩ := z
  refine c_cast S hG hH hS zh7 dX6_init_810 (fun H locs hH hS => ?_)
  refine lv_dup hx hb dX6_init_811 (ct_r _) ?_
  refine lv_iconst (v := (1 : Int32)) hx hb dX6_init_812 (by decide) ?_
  refine lv_bipush (v := (108 : Int32)) hx hb dX6_init_813 (by decide) ?_
  replace z := ob z
  obtain ⟨h8, zh8, z⟩ := z
  refine c_cast S hG hH hS zh8 dX6_init_815 (fun H locs hH hS => ?_)
  refine lv_dup hx hb dX6_init_816 (ct_r _) ?_
  refine lv_iconst (v := (2 : Int32)) hx hb dX6_init_817 (by decide) ?_
  refine lv_bipush (v := (108 : Int32)) hx hb dX6_init_818 (by decide) ?_
  replace z := ob z
  obtain ⟨h9, zh9, z⟩ := z
  refine c_cast S hG hH hS zh9 dX6_init_820 (fun H locs hH hS => ?_)
  replace z := ob z
  obtain ⟨h10, zh10, z⟩ := z
  refine c_putF S hG hH hS (ci := 22) (k := 36) rfl in_X6 tyX6 tyX6_ok nmX6 (Nat.le_of_ble_eq_true rfl) q1768 (fun _ y => y) rfl hnm rfl (ty := .array .char) rfl (nr_a _) (ft_a _) zh10 dX6_init_821 (fun H locs hH hS => ?_)
  refine c_aload_n hx hb dX6_init_824 rfl (lv_at hl 0 rfl) ?_
  refine lv_iconst (v := (3 : Int32)) hx hb dX6_init_825 (by decide) ?_
  replace z := ob z
  obtain ⟨h11, zh11, z⟩ := z
  refine c_newa S hG hH hS hRM 2 (atype := .char) (ty := .char) rfl rfl (fun y => y) (by decide) q686 (fun _ => rfl) zh11 dX6_init_826 (fun H locs hH hS => ?_)
  refine lv_dup hx hb dX6_init_828 (ct_r _) ?_
  refine lv_iconst (v := (0 : Int32)) hx hb dX6_init_829 (by decide) ?_
  refine lv_bipush (v := (109 : Int32)) hx hb dX6_init_830 (by decide) ?_
  replace z := ob z
  obtain ⟨h12, zh12, z⟩ := z
  refine c_cast S hG hH hS zh12 dX6_init_832 (fun H locs hH hS => ?_)
  refine lv_dup hx hb dX6_init_833 (ct_r _) ?_
  refine lv_iconst (v := (1 : Int32)) hx hb dX6_init_834 (by decide) ?_
  refine lv_bipush (v := (105 : Int32)) hx hb dX6_init_835 (by decide) ?_
  replace z := ob z
  obtain ⟨h13, zh13, z⟩ := z
  refine c_cast S hG hH hS zh13 dX6_init_837 (fun H locs hH hS => ?_)
  refine lv_dup hx hb dX6_init_838 (ct_r _) ?_
  refine lv_iconst (v := (2 : Int32)) hx hb dX6_init_839 (by decide) ?_
  refine lv_bipush (v := (110 : Int32)) hx hb dX6_init_840 (by decide) ?_
  replace z := ob z
  obtain ⟨h14, zh14, z⟩ := z
  refine c_cast S hG hH hS zh14 dX6_init_842 (fun H locs hH hS => ?_)
  replace z := ob z
  obtain ⟨h15, zh15, z⟩ := z
  refine c_putF S hG hH hS (ci := 22) (k := 37) rfl in_X6 tyX6 tyX6_ok nmX6 (Nat.le_of_ble_eq_true rfl) q1769 (fun _ y => y) rfl hnm rfl (ty := .array .char) rfl (nr_a _) (ft_a _) zh15 dX6_init_843 (fun H locs hH hS => ?_)
  refine c_aload_n hx hb dX6_init_846 rfl (lv_at hl 0 rfl) ?_
  refine lv_iconst (v := (3 : Int32)) hx hb dX6_init_847 (by decide) ?_
  replace z := ob z
  obtain ⟨h16, zh16, z⟩ := z
  refine c_newa S hG hH hS hRM 2 (atype := .char) (ty := .char) rfl rfl (fun y => y) (by decide) q686 (fun _ => rfl) zh16 dX6_init_848 (fun H locs hH hS => ?_)
  refine lv_dup hx hb dX6_init_850 (ct_r _) ?_
  refine lv_iconst (v := (0 : Int32)) hx hb dX6_init_851 (by decide) ?_
  refine lv_bipush (v := (109 : Int32)) hx hb dX6_init_852 (by decide) ?_
  replace z := ob z
  obtain ⟨h17, zh17, z⟩ := z
  refine c_cast S hG hH hS zh17 dX6_init_854 (fun H locs hH hS => ?_)
  refine lv_dup hx hb dX6_init_855 (ct_r _) ?_
  refine lv_iconst (v := (1 : Int32)) hx hb dX6_init_856 (by decide) ?_
  refine lv_bipush (v := (97 : Int32)) hx hb dX6_init_857 (by decide) ?_
  replace z := ob z
  obtain ⟨h18, zh18, z⟩ := z
  refine c_cast S hG hH hS zh18 dX6_init_859 (fun H locs hH hS => ?_)
  refine lv_dup hx hb dX6_init_860 (ct_r _) ?_
  refine lv_iconst (v := (2 : Int32)) hx hb dX6_init_861 (by decide) ?_
  refine lv_bipush (v := (120 : Int32)) hx hb dX6_init_862 (by decide) ?_
  replace z := ob z
  obtain ⟨h19, zh19, z⟩ := z
  refine c_cast S hG hH hS zh19 dX6_init_864 (fun H locs hH hS => ?_)
  replace z := ob z
  obtain ⟨h20, zh20, z⟩ := z
  refine c_putF S hG hH hS (ci := 22) (k := 38) rfl in_X6 tyX6 tyX6_ok nmX6 (Nat.le_of_ble_eq_true rfl) q1770 (fun _ y => y) rfl hnm rfl (ty := .array .char) rfl (nr_a _) (ft_a _) zh20 dX6_init_865 (fun H locs hH hS => ?_)
  exact wX6_init_868 S hr hlk hnm hG hRM h20 z _ _ hH hS _ (lv_sub hl [0] rfl)
set_option maxHeartbeats 4000000 in
theorem wX6_init_703 {p : Program} {l : Launch} {e : Env} {s : State} {m : MethodId} {args : Array Value} {below : List Frame} {meth : Method} {c : Code} {A : Nat → Prop} {D : va_G} {ac : Nat → ClassId} {K : KE} {h0 : HS} {a0 : Nat} (S : CallFix p m c cX6_init 1 s args lw_all RX6) (hr : meth.sig.returnType = none) (hlk : meth.locks = false) (hnm : meth.name = "<init>") (hG : GK A D ac K s) (hRM : RM K s (rmC 2 40 K h0)) {x : HS} : ∀ (h : HS), fX6_init_703 K a0 h = some x → cGo p l e (rmC 2 40 K h0) s m args below meth c A D ac K (MQ below (cQv A D ac K x) args s (K.2.2.1 - h0.2.1) (K.2.2.2 - h0.2.2) A) 1 703 [(0, va_rf (some a0))] [] h := by
  obtain ⟨hx, hb, hml, hown, hts⟩ := id S
  intro h z H locs hH hS ls hl
  unfold fX6_init_703 at z
  refine c_aload_n hx hb dX6_init_703 rfl (lv_at hl 0 rfl) ?_
  refine lv_bipush (v := (6 : Int32)) hx hb dX6_init_704 (by decide) ?_
  replace z := ob z
  obtain ⟨h1, zh1, z⟩ := z
  refine c_newa S hG hH hS hRM 2 (atype := .char) (ty := .char) rfl rfl (fun y => y) (by decide) q686 (fun _ => rfl) zh1 dX6_init_706 (fun H locs hH hS => ?_)
  refine lv_dup hx hb dX6_init_708 (ct_r _) ?_
  refine lv_iconst (v := (0 : Int32)) hx hb dX6_init_709 (by decide) ?_
  refine lv_bipush (v := (110 : Int32)) hx hb dX6_init_710 (by decide) ?_
  replace z := ob z
  obtain ⟨h2, zh2, z⟩ := z
  refine c_cast S hG hH hS zh2 dX6_init_712 (fun H locs hH hS => ?_)
  refine lv_dup hx hb dX6_init_713 (ct_r _) ?_
  refine lv_iconst (v := (1 : Int32)) hx hb dX6_init_714 (by decide) ?_
  refine lv_bipush (v := (117 : Int32)) hx hb dX6_init_715 (by decide) ?_
  replace z := ob z
  obtain ⟨h3, zh3, z⟩ := z
  refine c_cast S hG hH hS zh3 dX6_init_717 (fun H locs hH hS => ?_)
  refine lv_dup hx hb dX6_init_718 (ct_r _) ?_
  refine lv_iconst (v := (2 : Int32)) hx hb dX6_init_719 (by decide) ?_
  refine lv_bipush (v := (109 : Int32)) hx hb dX6_init_720 (by decide) ?_
  replace z := ob z
  obtain ⟨h4, zh4, z⟩ := z
  refine c_cast S hG hH hS zh4 dX6_init_722 (fun H locs hH hS => ?_)
  refine lv_dup hx hb dX6_init_723 (ct_r _) ?_
  refine lv_iconst (v := (3 : Int32)) hx hb dX6_init_724 (by decide) ?_
  refine lv_bipush (v := (98 : Int32)) hx hb dX6_init_725 (by decide) ?_
  replace z := ob z
  obtain ⟨h5, zh5, z⟩ := z
  refine c_cast S hG hH hS zh5 dX6_init_727 (fun H locs hH hS => ?_)
  refine lv_dup hx hb dX6_init_728 (ct_r _) ?_
  refine lv_iconst (v := (4 : Int32)) hx hb dX6_init_729 (by decide) ?_
  refine lv_bipush (v := (101 : Int32)) hx hb dX6_init_730 (by decide) ?_
  replace z := ob z
  obtain ⟨h6, zh6, z⟩ := z
  refine c_cast S hG hH hS zh6 dX6_init_732 (fun H locs hH hS => ?_)
  refine lv_dup hx hb dX6_init_733 (ct_r _) ?_
  refine lv_iconst (v := (5 : Int32)) hx hb dX6_init_734 (by decide) ?_
  refine lv_bipush (v := (114 : Int32)) hx hb dX6_init_735 (by decide) ?_
  replace z := ob z
  obtain ⟨h7, zh7, z⟩ := z
  refine c_cast S hG hH hS zh7 dX6_init_737 (fun H locs hH hS => ?_)
  replace z := ob z
  obtain ⟨h8, zh8, z⟩ := z
  refine c_putF S hG hH hS (ci := 22) (k := 32) rfl in_X6 tyX6 tyX6_ok nmX6 (Nat.le_of_ble_eq_true rfl) q1764 (fun _ y => y) rfl hnm rfl (ty := .array .char) rfl (nr_a _) (ft_a _) zh8 dX6_init_738 (fun H locs hH hS => ?_)
  refine c_aload_n hx hb dX6_init_741 rfl (lv_at hl 0 rfl) ?_
  refine lv_iconst (v := (2 : Int32)) hx hb dX6_init_742 (by decide) ?_
  replace z := ob z
  obtain ⟨h9, zh9, z⟩ := z
  refine c_newa S hG hH hS hRM 2 (atype := .char) (ty := .char) rfl rfl (fun y => y) (by decide) q686 (fun _ => rfl) zh9 dX6_init_743 (fun H locs hH hS => ?_)
  refine lv_dup hx hb dX6_init_745 (ct_r _) ?_
  refine lv_iconst (v := (0 : Int32)) hx hb dX6_init_746 (by decide) ?_
  refine lv_bipush (v := (111 : Int32)) hx hb dX6_init_747 (by decide) ?_
  replace z := ob z
  obtain ⟨h10, zh10, z⟩ := z
  refine c_cast S hG hH hS zh10 dX6_init_749 (fun H locs hH hS => ?_)
  refine lv_dup hx hb dX6_init_750 (ct_r _) ?_
  refine lv_iconst (v := (1 : Int32)) hx hb dX6_init_751 (by decide) ?_
  refine lv_bipush (v := (114 : Int32)) hx hb dX6_init_752 (by decide) ?_
  replace z := ob z
  obtain ⟨h11, zh11, z⟩ := z
  refine c_cast S hG hH hS zh11 dX6_init_754 (fun H locs hH hS => ?_)
  replace z := ob z
  obtain ⟨h12, zh12, z⟩ := z
  refine c_putF S hG hH hS (ci := 22) (k := 33) rfl in_X6 tyX6 tyX6_ok nmX6 (Nat.le_of_ble_eq_true rfl) q1765 (fun _ y => y) rfl hnm rfl (ty := .array .char) rfl (nr_a _) (ft_a _) zh12 dX6_init_755 (fun H locs hH hS => ?_)
  refine c_aload_n hx hb dX6_init_758 rfl (lv_at hl 0 rfl) ?_
  refine lv_iconst (v := (3 : Int32)) hx hb dX6_init_759 (by decide) ?_
  replace z := ob z
  obtain ⟨h13, zh13, z⟩ := z
  refine c_newa S hG hH hS hRM 2 (atype := .char) (ty := .char) rfl rfl (fun y => y) (by decide) q686 (fun _ => rfl) zh13 dX6_init_760 (fun H locs hH hS => ?_)
  refine lv_dup hx hb dX6_init_762 (ct_r _) ?_
  refine lv_iconst (v := (0 : Int32)) hx hb dX6_init_763 (by decide) ?_
  refine lv_bipush (v := (97 : Int32)) hx hb dX6_init_764 (by decide) ?_
  replace z := ob z
  obtain ⟨h14, zh14, z⟩ := z
  refine c_cast S hG hH hS zh14 dX6_init_766 (fun H locs hH hS => ?_)
  refine lv_dup hx hb dX6_init_767 (ct_r _) ?_
  refine lv_iconst (v := (1 : Int32)) hx hb dX6_init_768 (by decide) ?_
  refine lv_bipush (v := (110 : Int32)) hx hb dX6_init_769 (by decide) ?_
  replace z := ob z
  obtain ⟨h15, zh15, z⟩ := z
  refine c_cast S hG hH hS zh15 dX6_init_771 (fun H locs hH hS => ?_)
  refine lv_dup hx hb dX6_init_772 (ct_r _) ?_
  refine lv_iconst (v := (2 : Int32)) hx hb dX6_init_773 (by decide) ?_
  refine lv_bipush (v := (100 : Int32)) hx hb dX6_init_774 (by decide) ?_
  replace z := ob z
  obtain ⟨h16, zh16, z⟩ := z
  refine c_cast S hG hH hS zh16 dX6_init_776 (fun H locs hH hS => ?_)
  replace z := ob z
  obtain ⟨h17, zh17, z⟩ := z
  refine c_putF S hG hH hS (ci := 22) (k := 34) rfl in_X6 tyX6 tyX6_ok nmX6 (Nat.le_of_ble_eq_true rfl) q1766 (fun _ y => y) rfl hnm rfl (ty := .array .char) rfl (nr_a _) (ft_a _) zh17 dX6_init_777 (fun H locs hH hS => ?_)
  exact wX6_init_780 S hr hlk hnm hG hRM h17 z _ _ hH hS _ (lv_sub hl [0] rfl)
set_option maxHeartbeats 4000000 in
theorem wX6_init_612 {p : Program} {l : Launch} {e : Env} {s : State} {m : MethodId} {args : Array Value} {below : List Frame} {meth : Method} {c : Code} {A : Nat → Prop} {D : va_G} {ac : Nat → ClassId} {K : KE} {h0 : HS} {a0 : Nat} (S : CallFix p m c cX6_init 1 s args lw_all RX6) (hr : meth.sig.returnType = none) (hlk : meth.locks = false) (hnm : meth.name = "<init>") (hG : GK A D ac K s) (hRM : RM K s (rmC 2 40 K h0)) {x : HS} : ∀ (h : HS), fX6_init_612 K a0 h = some x → cGo p l e (rmC 2 40 K h0) s m args below meth c A D ac K (MQ below (cQv A D ac K x) args s (K.2.2.1 - h0.2.1) (K.2.2.2 - h0.2.2) A) 1 612 [(0, va_rf (some a0))] [] h := by
  obtain ⟨hx, hb, hml, hown, hts⟩ := id S
  intro h z H locs hH hS ls hl
  unfold fX6_init_612 at z
  refine c_aload_n hx hb dX6_init_612 rfl (lv_at hl 0 rfl) ?_
  refine lv_iconst (v := (4 : Int32)) hx hb dX6_init_613 (by decide) ?_
  replace z := ob z
  obtain ⟨h1, zh1, z⟩ := z
  refine c_newa S hG hH hS hRM 2 (atype := .char) (ty := .char) rfl rfl (fun y => y) (by decide) q686 (fun _ => rfl) zh1 dX6_init_614 (fun H locs hH hS => ?_)
  refine lv_dup hx hb dX6_init_616 (ct_r _) ?_
  refine lv_iconst (v := (0 : Int32)) hx hb dX6_init_617 (by decide) ?_
  refine lv_bipush (v := (115 : Int32)) hx hb dX6_init_618 (by decide) ?_
  replace z := ob z
  obtain ⟨h2, zh2, z⟩ := z
  refine c_cast S hG hH hS zh2 dX6_init_620 (fun H locs hH hS => ?_)
  refine lv_dup hx hb dX6_init_621 (ct_r _) ?_
  refine lv_iconst (v := (1 : Int32)) hx hb dX6_init_622 (by decide) ?_
  refine lv_bipush (v := (101 : Int32)) hx hb dX6_init_623 (by decide) ?_
  replace z := ob z
  obtain ⟨h3, zh3, z⟩ := z
  refine c_cast S hG hH hS zh3 dX6_init_625 (fun H locs hH hS => ?_)
  refine lv_dup hx hb dX6_init_626 (ct_r _) ?_
  refine lv_iconst (v := (2 : Int32)) hx hb dX6_init_627 (by decide) ?_
  refine lv_bipush (v := (101 : Int32)) hx hb dX6_init_628 (by decide) ?_
  replace z := ob z
  obtain ⟨h4, zh4, z⟩ := z
  refine c_cast S hG hH hS zh4 dX6_init_630 (fun H locs hH hS => ?_)
  refine lv_dup hx hb dX6_init_631 (ct_r _) ?_
  refine lv_iconst (v := (3 : Int32)) hx hb dX6_init_632 (by decide) ?_
  refine lv_bipush (v := (110 : Int32)) hx hb dX6_init_633 (by decide) ?_
  replace z := ob z
  obtain ⟨h5, zh5, z⟩ := z
  refine c_cast S hG hH hS zh5 dX6_init_635 (fun H locs hH hS => ?_)
  replace z := ob z
  obtain ⟨h6, zh6, z⟩ := z
  refine c_putF S hG hH hS (ci := 22) (k := 29) rfl in_X6 tyX6 tyX6_ok nmX6 (Nat.le_of_ble_eq_true rfl) q1761 (fun _ y => y) rfl hnm rfl (ty := .array .char) rfl (nr_a _) (ft_a _) zh6 dX6_init_636 (fun H locs hH hS => ?_)
  refine c_aload_n hx hb dX6_init_639 rfl (lv_at hl 0 rfl) ?_
  refine lv_iconst (v := (5 : Int32)) hx hb dX6_init_640 (by decide) ?_
  replace z := ob z
  obtain ⟨h7, zh7, z⟩ := z
  refine c_newa S hG hH hS hRM 2 (atype := .char) (ty := .char) rfl rfl (fun y => y) (by decide) q686 (fun _ => rfl) zh7 dX6_init_641 (fun H locs hH hS => ?_)
  refine lv_dup hx hb dX6_init_643 (ct_r _) ?_
  refine lv_iconst (v := (0 : Int32)) hx hb dX6_init_644 (by decide) ?_
  refine lv_bipush (v := (115 : Int32)) hx hb dX6_init_645 (by decide) ?_
  replace z := ob z
  obtain ⟨h8, zh8, z⟩ := z
  refine c_cast S hG hH hS zh8 dX6_init_647 (fun H locs hH hS => ?_)
  refine lv_dup hx hb dX6_init_648 (ct_r _) ?_
  refine lv_iconst (v := (1 : Int32)) hx hb dX6_init_649 (by decide) ?_
  refine lv_bipush (v := (99 : Int32)) hx hb dX6_init_650 (by decide) ?_
  replace z := ob z
  obtain ⟨h9, zh9, z⟩ := z
  refine c_cast S hG hH hS zh9 dX6_init_652 (fun H locs hH hS => ?_)
  refine lv_dup hx hb dX6_init_653 (ct_r _) ?_
  refine lv_iconst (v := (2 : Int32)) hx hb dX6_init_654 (by decide) ?_
  refine lv_bipush (v := (111 : Int32)) hx hb dX6_init_655 (by decide) ?_
  replace z := ob z
  obtain ⟨h10, zh10, z⟩ := z
  refine c_cast S hG hH hS zh10 dX6_init_657 (fun H locs hH hS => ?_)
  refine lv_dup hx hb dX6_init_658 (ct_r _) ?_
  refine lv_iconst (v := (3 : Int32)) hx hb dX6_init_659 (by decide) ?_
  refine lv_bipush (v := (114 : Int32)) hx hb dX6_init_660 (by decide) ?_
  replace z := ob z
  obtain ⟨h11, zh11, z⟩ := z
  refine c_cast S hG hH hS zh11 dX6_init_662 (fun H locs hH hS => ?_)
  refine lv_dup hx hb dX6_init_663 (ct_r _) ?_
  refine lv_iconst (v := (4 : Int32)) hx hb dX6_init_664 (by decide) ?_
  refine lv_bipush (v := (101 : Int32)) hx hb dX6_init_665 (by decide) ?_
  replace z := ob z
  obtain ⟨h12, zh12, z⟩ := z
  refine c_cast S hG hH hS zh12 dX6_init_667 (fun H locs hH hS => ?_)
  replace z := ob z
  obtain ⟨h13, zh13, z⟩ := z
  refine c_putF S hG hH hS (ci := 22) (k := 30) rfl in_X6 tyX6 tyX6_ok nmX6 (Nat.le_of_ble_eq_true rfl) q1762 (fun _ y => y) rfl hnm rfl (ty := .array .char) rfl (nr_a _) (ft_a _) zh13 dX6_init_668 (fun H locs hH hS => ?_)
  refine c_aload_n hx hb dX6_init_671 rfl (lv_at hl 0 rfl) ?_
  refine lv_iconst (v := (5 : Int32)) hx hb dX6_init_672 (by decide) ?_
  replace z := ob z
  obtain ⟨h14, zh14, z⟩ := z
  refine c_newa S hG hH hS hRM 2 (atype := .char) (ty := .char) rfl rfl (fun y => y) (by decide) q686 (fun _ => rfl) zh14 dX6_init_673 (fun H locs hH hS => ?_)
  refine lv_dup hx hb dX6_init_675 (ct_r _) ?_
  refine lv_iconst (v := (0 : Int32)) hx hb dX6_init_676 (by decide) ?_
  refine lv_bipush (v := (119 : Int32)) hx hb dX6_init_677 (by decide) ?_
  replace z := ob z
  obtain ⟨h15, zh15, z⟩ := z
  refine c_cast S hG hH hS zh15 dX6_init_679 (fun H locs hH hS => ?_)
  refine lv_dup hx hb dX6_init_680 (ct_r _) ?_
  refine lv_iconst (v := (1 : Int32)) hx hb dX6_init_681 (by decide) ?_
  refine lv_bipush (v := (111 : Int32)) hx hb dX6_init_682 (by decide) ?_
  replace z := ob z
  obtain ⟨h16, zh16, z⟩ := z
  refine c_cast S hG hH hS zh16 dX6_init_684 (fun H locs hH hS => ?_)
  refine lv_dup hx hb dX6_init_685 (ct_r _) ?_
  refine lv_iconst (v := (2 : Int32)) hx hb dX6_init_686 (by decide) ?_
  refine lv_bipush (v := (114 : Int32)) hx hb dX6_init_687 (by decide) ?_
  replace z := ob z
  obtain ⟨h17, zh17, z⟩ := z
  refine c_cast S hG hH hS zh17 dX6_init_689 (fun H locs hH hS => ?_)
  refine lv_dup hx hb dX6_init_690 (ct_r _) ?_
  refine lv_iconst (v := (3 : Int32)) hx hb dX6_init_691 (by decide) ?_
  refine lv_bipush (v := (116 : Int32)) hx hb dX6_init_692 (by decide) ?_
  replace z := ob z
  obtain ⟨h18, zh18, z⟩ := z
  refine c_cast S hG hH hS zh18 dX6_init_694 (fun H locs hH hS => ?_)
  refine lv_dup hx hb dX6_init_695 (ct_r _) ?_
  refine lv_iconst (v := (4 : Int32)) hx hb dX6_init_696 (by decide) ?_
  refine lv_bipush (v := (104 : Int32)) hx hb dX6_init_697 (by decide) ?_
  replace z := ob z
  obtain ⟨h19, zh19, z⟩ := z
  refine c_cast S hG hH hS zh19 dX6_init_699 (fun H locs hH hS => ?_)
  replace z := ob z
  obtain ⟨h20, zh20, z⟩ := z
  refine c_putF S hG hH hS (ci := 22) (k := 31) rfl in_X6 tyX6 tyX6_ok nmX6 (Nat.le_of_ble_eq_true rfl) q1763 (fun _ y => y) rfl hnm rfl (ty := .array .char) rfl (nr_a _) (ft_a _) zh20 dX6_init_700 (fun H locs hH hS => ?_)
  exact wX6_init_703 S hr hlk hnm hG hRM h20 z _ _ hH hS _ (lv_sub hl [0] rfl)
set_option maxHeartbeats 4000000 in
theorem wX6_init_515 {p : Program} {l : Launch} {e : Env} {s : State} {m : MethodId} {args : Array Value} {below : List Frame} {meth : Method} {c : Code} {A : Nat → Prop} {D : va_G} {ac : Nat → ClassId} {K : KE} {h0 : HS} {a0 : Nat} (S : CallFix p m c cX6_init 1 s args lw_all RX6) (hr : meth.sig.returnType = none) (hlk : meth.locks = false) (hnm : meth.name = "<init>") (hG : GK A D ac K s) (hRM : RM K s (rmC 2 40 K h0)) {x : HS} : ∀ (h : HS), fX6_init_515 K a0 h = some x → cGo p l e (rmC 2 40 K h0) s m args below meth c A D ac K (MQ below (cQv A D ac K x) args s (K.2.2.1 - h0.2.1) (K.2.2.2 - h0.2.2) A) 1 515 [(0, va_rf (some a0))] [] h := by
  obtain ⟨hx, hb, hml, hown, hts⟩ := id S
  intro h z H locs hH hS ls hl
  unfold fX6_init_515 at z
  refine c_aload_n hx hb dX6_init_515 rfl (lv_at hl 0 rfl) ?_
  refine lv_iconst (v := (4 : Int32)) hx hb dX6_init_516 (by decide) ?_
  replace z := ob z
  obtain ⟨h1, zh1, z⟩ := z
  refine c_newa S hG hH hS hRM 2 (atype := .char) (ty := .char) rfl rfl (fun y => y) (by decide) q686 (fun _ => rfl) zh1 dX6_init_517 (fun H locs hH hS => ?_)
  refine lv_dup hx hb dX6_init_519 (ct_r _) ?_
  refine lv_iconst (v := (0 : Int32)) hx hb dX6_init_520 (by decide) ?_
  refine lv_bipush (v := (104 : Int32)) hx hb dX6_init_521 (by decide) ?_
  replace z := ob z
  obtain ⟨h2, zh2, z⟩ := z
  refine c_cast S hG hH hS zh2 dX6_init_523 (fun H locs hH hS => ?_)
  refine lv_dup hx hb dX6_init_524 (ct_r _) ?_
  refine lv_iconst (v := (1 : Int32)) hx hb dX6_init_525 (by decide) ?_
  refine lv_bipush (v := (111 : Int32)) hx hb dX6_init_526 (by decide) ?_
  replace z := ob z
  obtain ⟨h3, zh3, z⟩ := z
  refine c_cast S hG hH hS zh3 dX6_init_528 (fun H locs hH hS => ?_)
  refine lv_dup hx hb dX6_init_529 (ct_r _) ?_
  refine lv_iconst (v := (2 : Int32)) hx hb dX6_init_530 (by decide) ?_
  refine lv_bipush (v := (117 : Int32)) hx hb dX6_init_531 (by decide) ?_
  replace z := ob z
  obtain ⟨h4, zh4, z⟩ := z
  refine c_cast S hG hH hS zh4 dX6_init_533 (fun H locs hH hS => ?_)
  refine lv_dup hx hb dX6_init_534 (ct_r _) ?_
  refine lv_iconst (v := (3 : Int32)) hx hb dX6_init_535 (by decide) ?_
  refine lv_bipush (v := (114 : Int32)) hx hb dX6_init_536 (by decide) ?_
  replace z := ob z
  obtain ⟨h5, zh5, z⟩ := z
  refine c_cast S hG hH hS zh5 dX6_init_538 (fun H locs hH hS => ?_)
  replace z := ob z
  obtain ⟨h6, zh6, z⟩ := z
  refine c_putF S hG hH hS (ci := 22) (k := 26) rfl in_X6 tyX6 tyX6_ok nmX6 (Nat.le_of_ble_eq_true rfl) q1758 (fun _ y => y) rfl hnm rfl (ty := .array .char) rfl (nr_a _) (ft_a _) zh6 dX6_init_539 (fun H locs hH hS => ?_)
  refine c_aload_n hx hb dX6_init_542 rfl (lv_at hl 0 rfl) ?_
  refine lv_iconst (v := (5 : Int32)) hx hb dX6_init_543 (by decide) ?_
  replace z := ob z
  obtain ⟨h7, zh7, z⟩ := z
  refine c_newa S hG hH hS hRM 2 (atype := .char) (ty := .char) rfl rfl (fun y => y) (by decide) q686 (fun _ => rfl) zh7 dX6_init_544 (fun H locs hH hS => ?_)
  refine lv_dup hx hb dX6_init_546 (ct_r _) ?_
  refine lv_iconst (v := (0 : Int32)) hx hb dX6_init_547 (by decide) ?_
  refine lv_bipush (v := (116 : Int32)) hx hb dX6_init_548 (by decide) ?_
  replace z := ob z
  obtain ⟨h8, zh8, z⟩ := z
  refine c_cast S hG hH hS zh8 dX6_init_550 (fun H locs hH hS => ?_)
  refine lv_dup hx hb dX6_init_551 (ct_r _) ?_
  refine lv_iconst (v := (1 : Int32)) hx hb dX6_init_552 (by decide) ?_
  refine lv_bipush (v := (97 : Int32)) hx hb dX6_init_553 (by decide) ?_
  replace z := ob z
  obtain ⟨h9, zh9, z⟩ := z
  refine c_cast S hG hH hS zh9 dX6_init_555 (fun H locs hH hS => ?_)
  refine lv_dup hx hb dX6_init_556 (ct_r _) ?_
  refine lv_iconst (v := (2 : Int32)) hx hb dX6_init_557 (by decide) ?_
  refine lv_bipush (v := (115 : Int32)) hx hb dX6_init_558 (by decide) ?_
  replace z := ob z
  obtain ⟨h10, zh10, z⟩ := z
  refine c_cast S hG hH hS zh10 dX6_init_560 (fun H locs hH hS => ?_)
  refine lv_dup hx hb dX6_init_561 (ct_r _) ?_
  refine lv_iconst (v := (3 : Int32)) hx hb dX6_init_562 (by decide) ?_
  refine lv_bipush (v := (116 : Int32)) hx hb dX6_init_563 (by decide) ?_
  replace z := ob z
  obtain ⟨h11, zh11, z⟩ := z
  refine c_cast S hG hH hS zh11 dX6_init_565 (fun H locs hH hS => ?_)
  refine lv_dup hx hb dX6_init_566 (ct_r _) ?_
  refine lv_iconst (v := (4 : Int32)) hx hb dX6_init_567 (by decide) ?_
  refine lv_bipush (v := (101 : Int32)) hx hb dX6_init_568 (by decide) ?_
  replace z := ob z
  obtain ⟨h12, zh12, z⟩ := z
  refine c_cast S hG hH hS zh12 dX6_init_570 (fun H locs hH hS => ?_)
  replace z := ob z
  obtain ⟨h13, zh13, z⟩ := z
  refine c_putF S hG hH hS (ci := 22) (k := 27) rfl in_X6 tyX6 tyX6_ok nmX6 (Nat.le_of_ble_eq_true rfl) q1759 (fun _ y => y) rfl hnm rfl (ty := .array .char) rfl (nr_a _) (ft_a _) zh13 dX6_init_571 (fun H locs hH hS => ?_)
  refine c_aload_n hx hb dX6_init_574 rfl (lv_at hl 0 rfl) ?_
  refine lv_bipush (v := (6 : Int32)) hx hb dX6_init_575 (by decide) ?_
  replace z := ob z
  obtain ⟨h14, zh14, z⟩ := z
  refine c_newa S hG hH hS hRM 2 (atype := .char) (ty := .char) rfl rfl (fun y => y) (by decide) q686 (fun _ => rfl) zh14 dX6_init_577 (fun H locs hH hS => ?_)
  refine lv_dup hx hb dX6_init_579 (ct_r _) ?_
  refine lv_iconst (v := (0 : Int32)) hx hb dX6_init_580 (by decide) ?_
  refine lv_bipush (v := (119 : Int32)) hx hb dX6_init_581 (by decide) ?_
  replace z := ob z
  obtain ⟨h15, zh15, z⟩ := z
  refine c_cast S hG hH hS zh15 dX6_init_583 (fun H locs hH hS => ?_)
  refine lv_dup hx hb dX6_init_584 (ct_r _) ?_
  refine lv_iconst (v := (1 : Int32)) hx hb dX6_init_585 (by decide) ?_
  refine lv_bipush (v := (101 : Int32)) hx hb dX6_init_586 (by decide) ?_
  replace z := ob z
  obtain ⟨h16, zh16, z⟩ := z
  refine c_cast S hG hH hS zh16 dX6_init_588 (fun H locs hH hS => ?_)
  refine lv_dup hx hb dX6_init_589 (ct_r _) ?_
  refine lv_iconst (v := (2 : Int32)) hx hb dX6_init_590 (by decide) ?_
  refine lv_bipush (v := (105 : Int32)) hx hb dX6_init_591 (by decide) ?_
  replace z := ob z
  obtain ⟨h17, zh17, z⟩ := z
  refine c_cast S hG hH hS zh17 dX6_init_593 (fun H locs hH hS => ?_)
  refine lv_dup hx hb dX6_init_594 (ct_r _) ?_
  refine lv_iconst (v := (3 : Int32)) hx hb dX6_init_595 (by decide) ?_
  refine lv_bipush (v := (103 : Int32)) hx hb dX6_init_596 (by decide) ?_
  replace z := ob z
  obtain ⟨h18, zh18, z⟩ := z
  refine c_cast S hG hH hS zh18 dX6_init_598 (fun H locs hH hS => ?_)
  refine lv_dup hx hb dX6_init_599 (ct_r _) ?_
  refine lv_iconst (v := (4 : Int32)) hx hb dX6_init_600 (by decide) ?_
  refine lv_bipush (v := (104 : Int32)) hx hb dX6_init_601 (by decide) ?_
  replace z := ob z
  obtain ⟨h19, zh19, z⟩ := z
  refine c_cast S hG hH hS zh19 dX6_init_603 (fun H locs hH hS => ?_)
  refine lv_dup hx hb dX6_init_604 (ct_r _) ?_
  refine lv_iconst (v := (5 : Int32)) hx hb dX6_init_605 (by decide) ?_
  refine lv_bipush (v := (116 : Int32)) hx hb dX6_init_606 (by decide) ?_
  replace z := ob z
  obtain ⟨h20, zh20, z⟩ := z
  refine c_cast S hG hH hS zh20 dX6_init_608 (fun H locs hH hS => ?_)
  replace z := ob z
  obtain ⟨h21, zh21, z⟩ := z
  refine c_putF S hG hH hS (ci := 22) (k := 28) rfl in_X6 tyX6 tyX6_ok nmX6 (Nat.le_of_ble_eq_true rfl) q1760 (fun _ y => y) rfl hnm rfl (ty := .array .char) rfl (nr_a _) (ft_a _) zh21 dX6_init_609 (fun H locs hH hS => ?_)
  exact wX6_init_612 S hr hlk hnm hG hRM h21 z _ _ hH hS _ (lv_sub hl [0] rfl)
set_option maxHeartbeats 4000000 in
theorem wX6_init_433 {p : Program} {l : Launch} {e : Env} {s : State} {m : MethodId} {args : Array Value} {below : List Frame} {meth : Method} {c : Code} {A : Nat → Prop} {D : va_G} {ac : Nat → ClassId} {K : KE} {h0 : HS} {a0 : Nat} (S : CallFix p m c cX6_init 1 s args lw_all RX6) (hr : meth.sig.returnType = none) (hlk : meth.locks = false) (hnm : meth.name = "<init>") (hG : GK A D ac K s) (hRM : RM K s (rmC 2 40 K h0)) {x : HS} : ∀ (h : HS), fX6_init_433 K a0 h = some x → cGo p l e (rmC 2 40 K h0) s m args below meth c A D ac K (MQ below (cQv A D ac K x) args s (K.2.2.1 - h0.2.1) (K.2.2.2 - h0.2.2) A) 1 433 [(0, va_rf (some a0))] [] h := by
  obtain ⟨hx, hb, hml, hown, hts⟩ := id S
  intro h z H locs hH hS ls hl
  unfold fX6_init_433 at z
  refine c_aload_n hx hb dX6_init_433 rfl (lv_at hl 0 rfl) ?_
  refine lv_bipush (v := (6 : Int32)) hx hb dX6_init_434 (by decide) ?_
  replace z := ob z
  obtain ⟨h1, zh1, z⟩ := z
  refine c_newa S hG hH hS hRM 2 (atype := .char) (ty := .char) rfl rfl (fun y => y) (by decide) q686 (fun _ => rfl) zh1 dX6_init_436 (fun H locs hH hS => ?_)
  refine lv_dup hx hb dX6_init_438 (ct_r _) ?_
  refine lv_iconst (v := (0 : Int32)) hx hb dX6_init_439 (by decide) ?_
  refine lv_bipush (v := (98 : Int32)) hx hb dX6_init_440 (by decide) ?_
  replace z := ob z
  obtain ⟨h2, zh2, z⟩ := z
  refine c_cast S hG hH hS zh2 dX6_init_442 (fun H locs hH hS => ?_)
  refine lv_dup hx hb dX6_init_443 (ct_r _) ?_
  refine lv_iconst (v := (1 : Int32)) hx hb dX6_init_444 (by decide) ?_
  refine lv_bipush (v := (111 : Int32)) hx hb dX6_init_445 (by decide) ?_
  replace z := ob z
  obtain ⟨h3, zh3, z⟩ := z
  refine c_cast S hG hH hS zh3 dX6_init_447 (fun H locs hH hS => ?_)
  refine lv_dup hx hb dX6_init_448 (ct_r _) ?_
  refine lv_iconst (v := (2 : Int32)) hx hb dX6_init_449 (by decide) ?_
  refine lv_bipush (v := (116 : Int32)) hx hb dX6_init_450 (by decide) ?_
  replace z := ob z
  obtain ⟨h4, zh4, z⟩ := z
  refine c_cast S hG hH hS zh4 dX6_init_452 (fun H locs hH hS => ?_)
  refine lv_dup hx hb dX6_init_453 (ct_r _) ?_
  refine lv_iconst (v := (3 : Int32)) hx hb dX6_init_454 (by decide) ?_
  refine lv_bipush (v := (104 : Int32)) hx hb dX6_init_455 (by decide) ?_
  replace z := ob z
  obtain ⟨h5, zh5, z⟩ := z
  refine c_cast S hG hH hS zh5 dX6_init_457 (fun H locs hH hS => ?_)
  refine lv_dup hx hb dX6_init_458 (ct_r _) ?_
  refine lv_iconst (v := (4 : Int32)) hx hb dX6_init_459 (by decide) ?_
  refine lv_bipush (v := (101 : Int32)) hx hb dX6_init_460 (by decide) ?_
  replace z := ob z
  obtain ⟨h6, zh6, z⟩ := z
  refine c_cast S hG hH hS zh6 dX6_init_462 (fun H locs hH hS => ?_)
  refine lv_dup hx hb dX6_init_463 (ct_r _) ?_
  refine lv_iconst (v := (5 : Int32)) hx hb dX6_init_464 (by decide) ?_
  refine lv_bipush (v := (114 : Int32)) hx hb dX6_init_465 (by decide) ?_
  replace z := ob z
  obtain ⟨h7, zh7, z⟩ := z
  refine c_cast S hG hH hS zh7 dX6_init_467 (fun H locs hH hS => ?_)
  replace z := ob z
  obtain ⟨h8, zh8, z⟩ := z
  refine c_putF S hG hH hS (ci := 22) (k := 24) rfl in_X6 tyX6 tyX6_ok nmX6 (Nat.le_of_ble_eq_true rfl) q1756 (fun _ y => y) rfl hnm rfl (ty := .array .char) rfl (nr_a _) (ft_a _) zh8 dX6_init_468 (fun H locs hH hS => ?_)
  refine c_aload_n hx hb dX6_init_471 rfl (lv_at hl 0 rfl) ?_
  refine lv_bipush (v := (7 : Int32)) hx hb dX6_init_472 (by decide) ?_
  replace z := ob z
  obtain ⟨h9, zh9, z⟩ := z
  refine c_newa S hG hH hS hRM 2 (atype := .char) (ty := .char) rfl rfl (fun y => y) (by decide) q686 (fun _ => rfl) zh9 dX6_init_474 (fun H locs hH hS => ?_)
  refine lv_dup hx hb dX6_init_476 (ct_r _) ?_
  refine lv_iconst (v := (0 : Int32)) hx hb dX6_init_477 (by decide) ?_
  refine lv_bipush (v := (115 : Int32)) hx hb dX6_init_478 (by decide) ?_
  replace z := ob z
  obtain ⟨h10, zh10, z⟩ := z
  refine c_cast S hG hH hS zh10 dX6_init_480 (fun H locs hH hS => ?_)
  refine lv_dup hx hb dX6_init_481 (ct_r _) ?_
  refine lv_iconst (v := (1 : Int32)) hx hb dX6_init_482 (by decide) ?_
  refine lv_bipush (v := (116 : Int32)) hx hb dX6_init_483 (by decide) ?_
  replace z := ob z
  obtain ⟨h11, zh11, z⟩ := z
  refine c_cast S hG hH hS zh11 dX6_init_485 (fun H locs hH hS => ?_)
  refine lv_dup hx hb dX6_init_486 (ct_r _) ?_
  refine lv_iconst (v := (2 : Int32)) hx hb dX6_init_487 (by decide) ?_
  refine lv_bipush (v := (114 : Int32)) hx hb dX6_init_488 (by decide) ?_
  replace z := ob z
  obtain ⟨h12, zh12, z⟩ := z
  refine c_cast S hG hH hS zh12 dX6_init_490 (fun H locs hH hS => ?_)
  refine lv_dup hx hb dX6_init_491 (ct_r _) ?_
  refine lv_iconst (v := (3 : Int32)) hx hb dX6_init_492 (by decide) ?_
  refine lv_bipush (v := (97 : Int32)) hx hb dX6_init_493 (by decide) ?_
  replace z := ob z
  obtain ⟨h13, zh13, z⟩ := z
  refine c_cast S hG hH hS zh13 dX6_init_495 (fun H locs hH hS => ?_)
  refine lv_dup hx hb dX6_init_496 (ct_r _) ?_
  refine lv_iconst (v := (4 : Int32)) hx hb dX6_init_497 (by decide) ?_
  refine lv_bipush (v := (110 : Int32)) hx hb dX6_init_498 (by decide) ?_
  replace z := ob z
  obtain ⟨h14, zh14, z⟩ := z
  refine c_cast S hG hH hS zh14 dX6_init_500 (fun H locs hH hS => ?_)
  refine lv_dup hx hb dX6_init_501 (ct_r _) ?_
  refine lv_iconst (v := (5 : Int32)) hx hb dX6_init_502 (by decide) ?_
  refine lv_bipush (v := (103 : Int32)) hx hb dX6_init_503 (by decide) ?_
  replace z := ob z
  obtain ⟨h15, zh15, z⟩ := z
  refine c_cast S hG hH hS zh15 dX6_init_505 (fun H locs hH hS => ?_)
  refine lv_dup hx hb dX6_init_506 (ct_r _) ?_
  refine lv_bipush (v := (6 : Int32)) hx hb dX6_init_507 (by decide) ?_
  refine lv_bipush (v := (101 : Int32)) hx hb dX6_init_509 (by decide) ?_
  replace z := ob z
  obtain ⟨h16, zh16, z⟩ := z
  refine c_cast S hG hH hS zh16 dX6_init_511 (fun H locs hH hS => ?_)
  replace z := ob z
  obtain ⟨h17, zh17, z⟩ := z
  refine c_putF S hG hH hS (ci := 22) (k := 25) rfl in_X6 tyX6 tyX6_ok nmX6 (Nat.le_of_ble_eq_true rfl) q1757 (fun _ y => y) rfl hnm rfl (ty := .array .char) rfl (nr_a _) (ft_a _) zh17 dX6_init_512 (fun H locs hH hS => ?_)
  exact wX6_init_515 S hr hlk hnm hG hRM h17 z _ _ hH hS _ (lv_sub hl [0] rfl)
set_option maxHeartbeats 4000000 in
theorem wX6_init_335 {p : Program} {l : Launch} {e : Env} {s : State} {m : MethodId} {args : Array Value} {below : List Frame} {meth : Method} {c : Code} {A : Nat → Prop} {D : va_G} {ac : Nat → ClassId} {K : KE} {h0 : HS} {a0 : Nat} (S : CallFix p m c cX6_init 1 s args lw_all RX6) (hr : meth.sig.returnType = none) (hlk : meth.locks = false) (hnm : meth.name = "<init>") (hG : GK A D ac K s) (hRM : RM K s (rmC 2 40 K h0)) {x : HS} : ∀ (h : HS), fX6_init_335 K a0 h = some x → cGo p l e (rmC 2 40 K h0) s m args below meth c A D ac K (MQ below (cQv A D ac K x) args s (K.2.2.1 - h0.2.1) (K.2.2.2 - h0.2.2) A) 1 335 [(0, va_rf (some a0))] [] h := by
  obtain ⟨hx, hb, hml, hown, hts⟩ := id S
  intro h z H locs hH hS ls hl
  unfold fX6_init_335 at z
  refine c_aload_n hx hb dX6_init_335 rfl (lv_at hl 0 rfl) ?_
  refine lv_iconst (v := (3 : Int32)) hx hb dX6_init_336 (by decide) ?_
  replace z := ob z
  obtain ⟨h1, zh1, z⟩ := z
  refine c_newa S hG hH hS hRM 2 (atype := .char) (ty := .char) rfl rfl (fun y => y) (by decide) q686 (fun _ => rfl) zh1 dX6_init_337 (fun H locs hH hS => ?_)
  refine lv_dup hx hb dX6_init_339 (ct_r _) ?_
  refine lv_iconst (v := (0 : Int32)) hx hb dX6_init_340 (by decide) ?_
  refine lv_bipush (v := (109 : Int32)) hx hb dX6_init_341 (by decide) ?_
  replace z := ob z
  obtain ⟨h2, zh2, z⟩ := z
  refine c_cast S hG hH hS zh2 dX6_init_343 (fun H locs hH hS => ?_)
  refine lv_dup hx hb dX6_init_344 (ct_r _) ?_
  refine lv_iconst (v := (1 : Int32)) hx hb dX6_init_345 (by decide) ?_
  refine lv_bipush (v := (97 : Int32)) hx hb dX6_init_346 (by decide) ?_
  replace z := ob z
  obtain ⟨h3, zh3, z⟩ := z
  refine c_cast S hG hH hS zh3 dX6_init_348 (fun H locs hH hS => ?_)
  refine lv_dup hx hb dX6_init_349 (ct_r _) ?_
  refine lv_iconst (v := (2 : Int32)) hx hb dX6_init_350 (by decide) ?_
  refine lv_bipush (v := (121 : Int32)) hx hb dX6_init_351 (by decide) ?_
  replace z := ob z
  obtain ⟨h4, zh4, z⟩ := z
  refine c_cast S hG hH hS zh4 dX6_init_353 (fun H locs hH hS => ?_)
  replace z := ob z
  obtain ⟨h5, zh5, z⟩ := z
  refine c_putF S hG hH hS (ci := 22) (k := 21) rfl in_X6 tyX6 tyX6_ok nmX6 (Nat.le_of_ble_eq_true rfl) q1753 (fun _ y => y) rfl hnm rfl (ty := .array .char) rfl (nr_a _) (ft_a _) zh5 dX6_init_354 (fun H locs hH hS => ?_)
  refine c_aload_n hx hb dX6_init_357 rfl (lv_at hl 0 rfl) ?_
  refine lv_bipush (v := (7 : Int32)) hx hb dX6_init_358 (by decide) ?_
  replace z := ob z
  obtain ⟨h6, zh6, z⟩ := z
  refine c_newa S hG hH hS hRM 2 (atype := .char) (ty := .char) rfl rfl (fun y => y) (by decide) q686 (fun _ => rfl) zh6 dX6_init_360 (fun H locs hH hS => ?_)
  refine lv_dup hx hb dX6_init_362 (ct_r _) ?_
  refine lv_iconst (v := (0 : Int32)) hx hb dX6_init_363 (by decide) ?_
  refine lv_bipush (v := (115 : Int32)) hx hb dX6_init_364 (by decide) ?_
  replace z := ob z
  obtain ⟨h7, zh7, z⟩ := z
  refine c_cast S hG hH hS zh7 dX6_init_366 (fun H locs hH hS => ?_)
  refine lv_dup hx hb dX6_init_367 (ct_r _) ?_
  refine lv_iconst (v := (1 : Int32)) hx hb dX6_init_368 (by decide) ?_
  refine lv_bipush (v := (99 : Int32)) hx hb dX6_init_369 (by decide) ?_
  replace z := ob z
  obtain ⟨h8, zh8, z⟩ := z
  refine c_cast S hG hH hS zh8 dX6_init_371 (fun H locs hH hS => ?_)
  refine lv_dup hx hb dX6_init_372 (ct_r _) ?_
  refine lv_iconst (v := (2 : Int32)) hx hb dX6_init_373 (by decide) ?_
  refine lv_bipush (v := (114 : Int32)) hx hb dX6_init_374 (by decide) ?_
  replace z := ob z
  obtain ⟨h9, zh9, z⟩ := z
  refine c_cast S hG hH hS zh9 dX6_init_376 (fun H locs hH hS => ?_)
  refine lv_dup hx hb dX6_init_377 (ct_r _) ?_
  refine lv_iconst (v := (3 : Int32)) hx hb dX6_init_378 (by decide) ?_
  refine lv_bipush (v := (101 : Int32)) hx hb dX6_init_379 (by decide) ?_
  replace z := ob z
  obtain ⟨h10, zh10, z⟩ := z
  refine c_cast S hG hH hS zh10 dX6_init_381 (fun H locs hH hS => ?_)
  refine lv_dup hx hb dX6_init_382 (ct_r _) ?_
  refine lv_iconst (v := (4 : Int32)) hx hb dX6_init_383 (by decide) ?_
  refine lv_bipush (v := (101 : Int32)) hx hb dX6_init_384 (by decide) ?_
  replace z := ob z
  obtain ⟨h11, zh11, z⟩ := z
  refine c_cast S hG hH hS zh11 dX6_init_386 (fun H locs hH hS => ?_)
  refine lv_dup hx hb dX6_init_387 (ct_r _) ?_
  refine lv_iconst (v := (5 : Int32)) hx hb dX6_init_388 (by decide) ?_
  refine lv_bipush (v := (110 : Int32)) hx hb dX6_init_389 (by decide) ?_
  replace z := ob z
  obtain ⟨h12, zh12, z⟩ := z
  refine c_cast S hG hH hS zh12 dX6_init_391 (fun H locs hH hS => ?_)
  refine lv_dup hx hb dX6_init_392 (ct_r _) ?_
  refine lv_bipush (v := (6 : Int32)) hx hb dX6_init_393 (by decide) ?_
  refine lv_bipush (v := (115 : Int32)) hx hb dX6_init_395 (by decide) ?_
  replace z := ob z
  obtain ⟨h13, zh13, z⟩ := z
  refine c_cast S hG hH hS zh13 dX6_init_397 (fun H locs hH hS => ?_)
  replace z := ob z
  obtain ⟨h14, zh14, z⟩ := z
  refine c_putF S hG hH hS (ci := 22) (k := 22) rfl in_X6 tyX6 tyX6_ok nmX6 (Nat.le_of_ble_eq_true rfl) q1754 (fun _ y => y) rfl hnm rfl (ty := .array .char) rfl (nr_a _) (ft_a _) zh14 dX6_init_398 (fun H locs hH hS => ?_)
  refine c_aload_n hx hb dX6_init_401 rfl (lv_at hl 0 rfl) ?_
  refine lv_iconst (v := (5 : Int32)) hx hb dX6_init_402 (by decide) ?_
  replace z := ob z
  obtain ⟨h15, zh15, z⟩ := z
  refine c_newa S hG hH hS hRM 2 (atype := .char) (ty := .char) rfl rfl (fun y => y) (by decide) q686 (fun _ => rfl) zh15 dX6_init_403 (fun H locs hH hS => ?_)
  refine lv_dup hx hb dX6_init_405 (ct_r _) ?_
  refine lv_iconst (v := (0 : Int32)) hx hb dX6_init_406 (by decide) ?_
  refine lv_bipush (v := (112 : Int32)) hx hb dX6_init_407 (by decide) ?_
  replace z := ob z
  obtain ⟨h16, zh16, z⟩ := z
  refine c_cast S hG hH hS zh16 dX6_init_409 (fun H locs hH hS => ?_)
  refine lv_dup hx hb dX6_init_410 (ct_r _) ?_
  refine lv_iconst (v := (1 : Int32)) hx hb dX6_init_411 (by decide) ?_
  refine lv_bipush (v := (114 : Int32)) hx hb dX6_init_412 (by decide) ?_
  replace z := ob z
  obtain ⟨h17, zh17, z⟩ := z
  refine c_cast S hG hH hS zh17 dX6_init_414 (fun H locs hH hS => ?_)
  refine lv_dup hx hb dX6_init_415 (ct_r _) ?_
  refine lv_iconst (v := (2 : Int32)) hx hb dX6_init_416 (by decide) ?_
  refine lv_bipush (v := (105 : Int32)) hx hb dX6_init_417 (by decide) ?_
  replace z := ob z
  obtain ⟨h18, zh18, z⟩ := z
  refine c_cast S hG hH hS zh18 dX6_init_419 (fun H locs hH hS => ?_)
  refine lv_dup hx hb dX6_init_420 (ct_r _) ?_
  refine lv_iconst (v := (3 : Int32)) hx hb dX6_init_421 (by decide) ?_
  refine lv_bipush (v := (99 : Int32)) hx hb dX6_init_422 (by decide) ?_
  replace z := ob z
  obtain ⟨h19, zh19, z⟩ := z
  refine c_cast S hG hH hS zh19 dX6_init_424 (fun H locs hH hS => ?_)
  refine lv_dup hx hb dX6_init_425 (ct_r _) ?_
  refine lv_iconst (v := (4 : Int32)) hx hb dX6_init_426 (by decide) ?_
  refine lv_bipush (v := (101 : Int32)) hx hb dX6_init_427 (by decide) ?_
  replace z := ob z
  obtain ⟨h20, zh20, z⟩ := z
  refine c_cast S hG hH hS zh20 dX6_init_429 (fun H locs hH hS => ?_)
  replace z := ob z
  obtain ⟨h21, zh21, z⟩ := z
  refine c_putF S hG hH hS (ci := 22) (k := 23) rfl in_X6 tyX6 tyX6_ok nmX6 (Nat.le_of_ble_eq_true rfl) q1755 (fun _ y => y) rfl hnm rfl (ty := .array .char) rfl (nr_a _) (ft_a _) zh21 dX6_init_430 (fun H locs hH hS => ?_)
  exact wX6_init_433 S hr hlk hnm hG hRM h21 z _ _ hH hS _ (lv_sub hl [0] rfl)
set_option maxHeartbeats 4000000 in
theorem wX6_init_265 {p : Program} {l : Launch} {e : Env} {s : State} {m : MethodId} {args : Array Value} {below : List Frame} {meth : Method} {c : Code} {A : Nat → Prop} {D : va_G} {ac : Nat → ClassId} {K : KE} {h0 : HS} {a0 : Nat} (S : CallFix p m c cX6_init 1 s args lw_all RX6) (hr : meth.sig.returnType = none) (hlk : meth.locks = false) (hnm : meth.name = "<init>") (hG : GK A D ac K s) (hRM : RM K s (rmC 2 40 K h0)) {x : HS} : ∀ (h : HS), fX6_init_265 K a0 h = some x → cGo p l e (rmC 2 40 K h0) s m args below meth c A D ac K (MQ below (cQv A D ac K x) args s (K.2.2.1 - h0.2.1) (K.2.2.2 - h0.2.2) A) 1 265 [(0, va_rf (some a0))] [] h := by
  obtain ⟨hx, hb, hml, hown, hts⟩ := id S
  intro h z H locs hH hS ls hl
  unfold fX6_init_265 at z
  refine c_aload_n hx hb dX6_init_265 rfl (lv_at hl 0 rfl) ?_
  refine lv_bipush (v := (6 : Int32)) hx hb dX6_init_266 (by decide) ?_
  replace z := ob z
  obtain ⟨h1, zh1, z⟩ := z
  refine c_newa S hG hH hS hRM 2 (atype := .char) (ty := .char) rfl rfl (fun y => y) (by decide) q686 (fun _ => rfl) zh1 dX6_init_268 (fun H locs hH hS => ?_)
  refine lv_dup hx hb dX6_init_270 (ct_r _) ?_
  refine lv_iconst (v := (0 : Int32)) hx hb dX6_init_271 (by decide) ?_
  refine lv_bipush (v := (108 : Int32)) hx hb dX6_init_272 (by decide) ?_
  replace z := ob z
  obtain ⟨h2, zh2, z⟩ := z
  refine c_cast S hG hH hS zh2 dX6_init_274 (fun H locs hH hS => ?_)
  refine lv_dup hx hb dX6_init_275 (ct_r _) ?_
  refine lv_iconst (v := (1 : Int32)) hx hb dX6_init_276 (by decide) ?_
  refine lv_bipush (v := (101 : Int32)) hx hb dX6_init_277 (by decide) ?_
  replace z := ob z
  obtain ⟨h3, zh3, z⟩ := z
  refine c_cast S hG hH hS zh3 dX6_init_279 (fun H locs hH hS => ?_)
  refine lv_dup hx hb dX6_init_280 (ct_r _) ?_
  refine lv_iconst (v := (2 : Int32)) hx hb dX6_init_281 (by decide) ?_
  refine lv_bipush (v := (97 : Int32)) hx hb dX6_init_282 (by decide) ?_
  replace z := ob z
  obtain ⟨h4, zh4, z⟩ := z
  refine c_cast S hG hH hS zh4 dX6_init_284 (fun H locs hH hS => ?_)
  refine lv_dup hx hb dX6_init_285 (ct_r _) ?_
  refine lv_iconst (v := (3 : Int32)) hx hb dX6_init_286 (by decide) ?_
  refine lv_bipush (v := (114 : Int32)) hx hb dX6_init_287 (by decide) ?_
  replace z := ob z
  obtain ⟨h5, zh5, z⟩ := z
  refine c_cast S hG hH hS zh5 dX6_init_289 (fun H locs hH hS => ?_)
  refine lv_dup hx hb dX6_init_290 (ct_r _) ?_
  refine lv_iconst (v := (4 : Int32)) hx hb dX6_init_291 (by decide) ?_
  refine lv_bipush (v := (110 : Int32)) hx hb dX6_init_292 (by decide) ?_
  replace z := ob z
  obtain ⟨h6, zh6, z⟩ := z
  refine c_cast S hG hH hS zh6 dX6_init_294 (fun H locs hH hS => ?_)
  refine lv_dup hx hb dX6_init_295 (ct_r _) ?_
  refine lv_iconst (v := (5 : Int32)) hx hb dX6_init_296 (by decide) ?_
  refine lv_bipush (v := (115 : Int32)) hx hb dX6_init_297 (by decide) ?_
  replace z := ob z
  obtain ⟨h7, zh7, z⟩ := z
  refine c_cast S hG hH hS zh7 dX6_init_299 (fun H locs hH hS => ?_)
  replace z := ob z
  obtain ⟨h8, zh8, z⟩ := z
  refine c_putF S hG hH hS (ci := 22) (k := 19) rfl in_X6 tyX6 tyX6_ok nmX6 (Nat.le_of_ble_eq_true rfl) q1751 (fun _ y => y) rfl hnm rfl (ty := .array .char) rfl (nr_a _) (ft_a _) zh8 dX6_init_300 (fun H locs hH hS => ?_)
  refine c_aload_n hx hb dX6_init_303 rfl (lv_at hl 0 rfl) ?_
  refine lv_iconst (v := (5 : Int32)) hx hb dX6_init_304 (by decide) ?_
  replace z := ob z
  obtain ⟨h9, zh9, z⟩ := z
  refine c_newa S hG hH hS hRM 2 (atype := .char) (ty := .char) rfl rfl (fun y => y) (by decide) q686 (fun _ => rfl) zh9 dX6_init_305 (fun H locs hH hS => ?_)
  refine lv_dup hx hb dX6_init_307 (ct_r _) ?_
  refine lv_iconst (v := (0 : Int32)) hx hb dX6_init_308 (by decide) ?_
  refine lv_bipush (v := (102 : Int32)) hx hb dX6_init_309 (by decide) ?_
  replace z := ob z
  obtain ⟨h10, zh10, z⟩ := z
  refine c_cast S hG hH hS zh10 dX6_init_311 (fun H locs hH hS => ?_)
  refine lv_dup hx hb dX6_init_312 (ct_r _) ?_
  refine lv_iconst (v := (1 : Int32)) hx hb dX6_init_313 (by decide) ?_
  refine lv_bipush (v := (97 : Int32)) hx hb dX6_init_314 (by decide) ?_
  replace z := ob z
  obtain ⟨h11, zh11, z⟩ := z
  refine c_cast S hG hH hS zh11 dX6_init_316 (fun H locs hH hS => ?_)
  refine lv_dup hx hb dX6_init_317 (ct_r _) ?_
  refine lv_iconst (v := (2 : Int32)) hx hb dX6_init_318 (by decide) ?_
  refine lv_bipush (v := (100 : Int32)) hx hb dX6_init_319 (by decide) ?_
  replace z := ob z
  obtain ⟨h12, zh12, z⟩ := z
  refine c_cast S hG hH hS zh12 dX6_init_321 (fun H locs hH hS => ?_)
  refine lv_dup hx hb dX6_init_322 (ct_r _) ?_
  refine lv_iconst (v := (3 : Int32)) hx hb dX6_init_323 (by decide) ?_
  refine lv_bipush (v := (101 : Int32)) hx hb dX6_init_324 (by decide) ?_
  replace z := ob z
  obtain ⟨h13, zh13, z⟩ := z
  refine c_cast S hG hH hS zh13 dX6_init_326 (fun H locs hH hS => ?_)
  refine lv_dup hx hb dX6_init_327 (ct_r _) ?_
  refine lv_iconst (v := (4 : Int32)) hx hb dX6_init_328 (by decide) ?_
  refine lv_bipush (v := (115 : Int32)) hx hb dX6_init_329 (by decide) ?_
  replace z := ob z
  obtain ⟨h14, zh14, z⟩ := z
  refine c_cast S hG hH hS zh14 dX6_init_331 (fun H locs hH hS => ?_)
  replace z := ob z
  obtain ⟨h15, zh15, z⟩ := z
  refine c_putF S hG hH hS (ci := 22) (k := 20) rfl in_X6 tyX6 tyX6_ok nmX6 (Nat.le_of_ble_eq_true rfl) q1752 (fun _ y => y) rfl hnm rfl (ty := .array .char) rfl (nr_a _) (ft_a _) zh15 dX6_init_332 (fun H locs hH hS => ?_)
  exact wX6_init_335 S hr hlk hnm hG hRM h15 z _ _ hH hS _ (lv_sub hl [0] rfl)
set_option maxHeartbeats 4000000 in
theorem wX6_init_167 {p : Program} {l : Launch} {e : Env} {s : State} {m : MethodId} {args : Array Value} {below : List Frame} {meth : Method} {c : Code} {A : Nat → Prop} {D : va_G} {ac : Nat → ClassId} {K : KE} {h0 : HS} {a0 : Nat} (S : CallFix p m c cX6_init 1 s args lw_all RX6) (hr : meth.sig.returnType = none) (hlk : meth.locks = false) (hnm : meth.name = "<init>") (hG : GK A D ac K s) (hRM : RM K s (rmC 2 40 K h0)) {x : HS} : ∀ (h : HS), fX6_init_167 K a0 h = some x → cGo p l e (rmC 2 40 K h0) s m args below meth c A D ac K (MQ below (cQv A D ac K x) args s (K.2.2.1 - h0.2.1) (K.2.2.2 - h0.2.2) A) 1 167 [(0, va_rf (some a0))] [] h := by
  obtain ⟨hx, hb, hml, hown, hts⟩ := id S
  intro h z H locs hH hS ls hl
  unfold fX6_init_167 at z
  refine c_aload_n hx hb dX6_init_167 rfl (lv_at hl 0 rfl) ?_
  refine lv_iconst (v := (2 : Int32)) hx hb dX6_init_168 (by decide) ?_
  replace z := ob z
  obtain ⟨h1, zh1, z⟩ := z
  refine c_newa S hG hH hS hRM 2 (atype := .char) (ty := .char) rfl rfl (fun y => y) (by decide) q686 (fun _ => rfl) zh1 dX6_init_169 (fun H locs hH hS => ?_)
  refine lv_dup hx hb dX6_init_171 (ct_r _) ?_
  refine lv_iconst (v := (0 : Int32)) hx hb dX6_init_172 (by decide) ?_
  refine lv_bipush (v := (97 : Int32)) hx hb dX6_init_173 (by decide) ?_
  replace z := ob z
  obtain ⟨h2, zh2, z⟩ := z
  refine c_cast S hG hH hS zh2 dX6_init_175 (fun H locs hH hS => ?_)
  refine lv_dup hx hb dX6_init_176 (ct_r _) ?_
  refine lv_iconst (v := (1 : Int32)) hx hb dX6_init_177 (by decide) ?_
  refine lv_bipush (v := (116 : Int32)) hx hb dX6_init_178 (by decide) ?_
  replace z := ob z
  obtain ⟨h3, zh3, z⟩ := z
  refine c_cast S hG hH hS zh3 dX6_init_180 (fun H locs hH hS => ?_)
  replace z := ob z
  obtain ⟨h4, zh4, z⟩ := z
  refine c_putF S hG hH hS (ci := 22) (k := 15) rfl in_X6 tyX6 tyX6_ok nmX6 (Nat.le_of_ble_eq_true rfl) q1747 (fun _ y => y) rfl hnm rfl (ty := .array .char) rfl (nr_a _) (ft_a _) zh4 dX6_init_181 (fun H locs hH hS => ?_)
  refine c_aload_n hx hb dX6_init_184 rfl (lv_at hl 0 rfl) ?_
  refine lv_iconst (v := (2 : Int32)) hx hb dX6_init_185 (by decide) ?_
  replace z := ob z
  obtain ⟨h5, zh5, z⟩ := z
  refine c_newa S hG hH hS hRM 2 (atype := .char) (ty := .char) rfl rfl (fun y => y) (by decide) q686 (fun _ => rfl) zh5 dX6_init_186 (fun H locs hH hS => ?_)
  refine lv_dup hx hb dX6_init_188 (ct_r _) ?_
  refine lv_iconst (v := (0 : Int32)) hx hb dX6_init_189 (by decide) ?_
  refine lv_bipush (v := (116 : Int32)) hx hb dX6_init_190 (by decide) ?_
  replace z := ob z
  obtain ⟨h6, zh6, z⟩ := z
  refine c_cast S hG hH hS zh6 dX6_init_192 (fun H locs hH hS => ?_)
  refine lv_dup hx hb dX6_init_193 (ct_r _) ?_
  refine lv_iconst (v := (1 : Int32)) hx hb dX6_init_194 (by decide) ?_
  refine lv_bipush (v := (111 : Int32)) hx hb dX6_init_195 (by decide) ?_
  replace z := ob z
  obtain ⟨h7, zh7, z⟩ := z
  refine c_cast S hG hH hS zh7 dX6_init_197 (fun H locs hH hS => ?_)
  replace z := ob z
  obtain ⟨h8, zh8, z⟩ := z
  refine c_putF S hG hH hS (ci := 22) (k := 16) rfl in_X6 tyX6 tyX6_ok nmX6 (Nat.le_of_ble_eq_true rfl) q1748 (fun _ y => y) rfl hnm rfl (ty := .array .char) rfl (nr_a _) (ft_a _) zh8 dX6_init_198 (fun H locs hH hS => ?_)
  refine c_aload_n hx hb dX6_init_201 rfl (lv_at hl 0 rfl) ?_
  refine lv_iconst (v := (5 : Int32)) hx hb dX6_init_202 (by decide) ?_
  replace z := ob z
  obtain ⟨h9, zh9, z⟩ := z
  refine c_newa S hG hH hS hRM 2 (atype := .char) (ty := .char) rfl rfl (fun y => y) (by decide) q686 (fun _ => rfl) zh9 dX6_init_203 (fun H locs hH hS => ?_)
  refine lv_dup hx hb dX6_init_205 (ct_r _) ?_
  refine lv_iconst (v := (0 : Int32)) hx hb dX6_init_206 (by decide) ?_
  refine lv_bipush (v := (108 : Int32)) hx hb dX6_init_207 (by decide) ?_
  replace z := ob z
  obtain ⟨h10, zh10, z⟩ := z
  refine c_cast S hG hH hS zh10 dX6_init_209 (fun H locs hH hS => ?_)
  refine lv_dup hx hb dX6_init_210 (ct_r _) ?_
  refine lv_iconst (v := (1 : Int32)) hx hb dX6_init_211 (by decide) ?_
  refine lv_bipush (v := (105 : Int32)) hx hb dX6_init_212 (by decide) ?_
  replace z := ob z
  obtain ⟨h11, zh11, z⟩ := z
  refine c_cast S hG hH hS zh11 dX6_init_214 (fun H locs hH hS => ?_)
  refine lv_dup hx hb dX6_init_215 (ct_r _) ?_
  refine lv_iconst (v := (2 : Int32)) hx hb dX6_init_216 (by decide) ?_
  refine lv_bipush (v := (107 : Int32)) hx hb dX6_init_217 (by decide) ?_
  replace z := ob z
  obtain ⟨h12, zh12, z⟩ := z
  refine c_cast S hG hH hS zh12 dX6_init_219 (fun H locs hH hS => ?_)
  refine lv_dup hx hb dX6_init_220 (ct_r _) ?_
  refine lv_iconst (v := (3 : Int32)) hx hb dX6_init_221 (by decide) ?_
  refine lv_bipush (v := (101 : Int32)) hx hb dX6_init_222 (by decide) ?_
  replace z := ob z
  obtain ⟨h13, zh13, z⟩ := z
  refine c_cast S hG hH hS zh13 dX6_init_224 (fun H locs hH hS => ?_)
  refine lv_dup hx hb dX6_init_225 (ct_r _) ?_
  refine lv_iconst (v := (4 : Int32)) hx hb dX6_init_226 (by decide) ?_
  refine lv_bipush (v := (115 : Int32)) hx hb dX6_init_227 (by decide) ?_
  replace z := ob z
  obtain ⟨h14, zh14, z⟩ := z
  refine c_cast S hG hH hS zh14 dX6_init_229 (fun H locs hH hS => ?_)
  replace z := ob z
  obtain ⟨h15, zh15, z⟩ := z
  refine c_putF S hG hH hS (ci := 22) (k := 17) rfl in_X6 tyX6 tyX6_ok nmX6 (Nat.le_of_ble_eq_true rfl) q1749 (fun _ y => y) rfl hnm rfl (ty := .array .char) rfl (nr_a _) (ft_a _) zh15 dX6_init_230 (fun H locs hH hS => ?_)
  refine c_aload_n hx hb dX6_init_233 rfl (lv_at hl 0 rfl) ?_
  refine lv_iconst (v := (5 : Int32)) hx hb dX6_init_234 (by decide) ?_
  replace z := ob z
  obtain ⟨h16, zh16, z⟩ := z
  refine c_newa S hG hH hS hRM 2 (atype := .char) (ty := .char) rfl rfl (fun y => y) (by decide) q686 (fun _ => rfl) zh16 dX6_init_235 (fun H locs hH hS => ?_)
  refine lv_dup hx hb dX6_init_237 (ct_r _) ?_
  refine lv_iconst (v := (0 : Int32)) hx hb dX6_init_238 (by decide) ?_
  refine lv_bipush (v := (112 : Int32)) hx hb dX6_init_239 (by decide) ?_
  replace z := ob z
  obtain ⟨h17, zh17, z⟩ := z
  refine c_cast S hG hH hS zh17 dX6_init_241 (fun H locs hH hS => ?_)
  refine lv_dup hx hb dX6_init_242 (ct_r _) ?_
  refine lv_iconst (v := (1 : Int32)) hx hb dX6_init_243 (by decide) ?_
  refine lv_bipush (v := (114 : Int32)) hx hb dX6_init_244 (by decide) ?_
  replace z := ob z
  obtain ⟨h18, zh18, z⟩ := z
  refine c_cast S hG hH hS zh18 dX6_init_246 (fun H locs hH hS => ?_)
  refine lv_dup hx hb dX6_init_247 (ct_r _) ?_
  refine lv_iconst (v := (2 : Int32)) hx hb dX6_init_248 (by decide) ?_
  refine lv_bipush (v := (101 : Int32)) hx hb dX6_init_249 (by decide) ?_
  replace z := ob z
  obtain ⟨h19, zh19, z⟩ := z
  refine c_cast S hG hH hS zh19 dX6_init_251 (fun H locs hH hS => ?_)
  refine lv_dup hx hb dX6_init_252 (ct_r _) ?_
  refine lv_iconst (v := (3 : Int32)) hx hb dX6_init_253 (by decide) ?_
  refine lv_bipush (v := (115 : Int32)) hx hb dX6_init_254 (by decide) ?_
  replace z := ob z
  obtain ⟨h20, zh20, z⟩ := z
  refine c_cast S hG hH hS zh20 dX6_init_256 (fun H locs hH hS => ?_)
  refine lv_dup hx hb dX6_init_257 (ct_r _) ?_
  refine lv_iconst (v := (4 : Int32)) hx hb dX6_init_258 (by decide) ?_
  refine lv_bipush (v := (115 : Int32)) hx hb dX6_init_259 (by decide) ?_
  replace z := ob z
  obtain ⟨h21, zh21, z⟩ := z
  refine c_cast S hG hH hS zh21 dX6_init_261 (fun H locs hH hS => ?_)
  replace z := ob z
  obtain ⟨h22, zh22, z⟩ := z
  refine c_putF S hG hH hS (ci := 22) (k := 18) rfl in_X6 tyX6 tyX6_ok nmX6 (Nat.le_of_ble_eq_true rfl) q1750 (fun _ y => y) rfl hnm rfl (ty := .array .char) rfl (nr_a _) (ft_a _) zh22 dX6_init_262 (fun H locs hH hS => ?_)
  exact wX6_init_265 S hr hlk hnm hG hRM h22 z _ _ hH hS _ (lv_sub hl [0] rfl)
set_option maxHeartbeats 4000000 in
theorem wX6_init_80 {p : Program} {l : Launch} {e : Env} {s : State} {m : MethodId} {args : Array Value} {below : List Frame} {meth : Method} {c : Code} {A : Nat → Prop} {D : va_G} {ac : Nat → ClassId} {K : KE} {h0 : HS} {a0 : Nat} (S : CallFix p m c cX6_init 1 s args lw_all RX6) (hr : meth.sig.returnType = none) (hlk : meth.locks = false) (hnm : meth.name = "<init>") (hG : GK A D ac K s) (hRM : RM K s (rmC 2 40 K h0)) {x : HS} : ∀ (h : HS), fX6_init_80 K a0 h = some x → cGo p l e (rmC 2 40 K h0) s m args below meth c A D ac K (MQ below (cQv A D ac K x) args s (K.2.2.1 - h0.2.1) (K.2.2.2 - h0.2.2) A) 1 80 [(0, va_rf (some a0))] [] h := by
  obtain ⟨hx, hb, hml, hown, hts⟩ := id S
  intro h z H locs hH hS ls hl
  unfold fX6_init_80 at z
  refine c_aload_n hx hb dX6_init_80 rfl (lv_at hl 0 rfl) ?_
  refine lv_iconst (v := (5 : Int32)) hx hb dX6_init_81 (by decide) ?_
  replace z := ob z
  obtain ⟨h1, zh1, z⟩ := z
  refine c_newa S hG hH hS hRM 2 (atype := .char) (ty := .char) rfl rfl (fun y => y) (by decide) q686 (fun _ => rfl) zh1 dX6_init_82 (fun H locs hH hS => ?_)
  refine lv_dup hx hb dX6_init_84 (ct_r _) ?_
  refine lv_iconst (v := (0 : Int32)) hx hb dX6_init_85 (by decide) ?_
  refine lv_bipush (v := (112 : Int32)) hx hb dX6_init_86 (by decide) ?_
  replace z := ob z
  obtain ⟨h2, zh2, z⟩ := z
  refine c_cast S hG hH hS zh2 dX6_init_88 (fun H locs hH hS => ?_)
  refine lv_dup hx hb dX6_init_89 (ct_r _) ?_
  refine lv_iconst (v := (1 : Int32)) hx hb dX6_init_90 (by decide) ?_
  refine lv_bipush (v := (97 : Int32)) hx hb dX6_init_91 (by decide) ?_
  replace z := ob z
  obtain ⟨h3, zh3, z⟩ := z
  refine c_cast S hG hH hS zh3 dX6_init_93 (fun H locs hH hS => ?_)
  refine lv_dup hx hb dX6_init_94 (ct_r _) ?_
  refine lv_iconst (v := (2 : Int32)) hx hb dX6_init_95 (by decide) ?_
  refine lv_bipush (v := (114 : Int32)) hx hb dX6_init_96 (by decide) ?_
  replace z := ob z
  obtain ⟨h4, zh4, z⟩ := z
  refine c_cast S hG hH hS zh4 dX6_init_98 (fun H locs hH hS => ?_)
  refine lv_dup hx hb dX6_init_99 (ct_r _) ?_
  refine lv_iconst (v := (3 : Int32)) hx hb dX6_init_100 (by decide) ?_
  refine lv_bipush (v := (116 : Int32)) hx hb dX6_init_101 (by decide) ?_
  replace z := ob z
  obtain ⟨h5, zh5, z⟩ := z
  refine c_cast S hG hH hS zh5 dX6_init_103 (fun H locs hH hS => ?_)
  refine lv_dup hx hb dX6_init_104 (ct_r _) ?_
  refine lv_iconst (v := (4 : Int32)) hx hb dX6_init_105 (by decide) ?_
  refine lv_bipush (v := (115 : Int32)) hx hb dX6_init_106 (by decide) ?_
  replace z := ob z
  obtain ⟨h6, zh6, z⟩ := z
  refine c_cast S hG hH hS zh6 dX6_init_108 (fun H locs hH hS => ?_)
  replace z := ob z
  obtain ⟨h7, zh7, z⟩ := z
  refine c_putF S hG hH hS (ci := 22) (k := 12) rfl in_X6 tyX6 tyX6_ok nmX6 (Nat.le_of_ble_eq_true rfl) q1744 (fun _ y => y) rfl hnm rfl (ty := .array .char) rfl (nr_a _) (ft_a _) zh7 dX6_init_109 (fun H locs hH hS => ?_)
  refine c_aload_n hx hb dX6_init_112 rfl (lv_at hl 0 rfl) ?_
  refine lv_iconst (v := (2 : Int32)) hx hb dX6_init_113 (by decide) ?_
  replace z := ob z
  obtain ⟨h8, zh8, z⟩ := z
  refine c_newa S hG hH hS hRM 2 (atype := .char) (ty := .char) rfl rfl (fun y => y) (by decide) q686 (fun _ => rfl) zh8 dX6_init_114 (fun H locs hH hS => ?_)
  refine lv_dup hx hb dX6_init_116 (ct_r _) ?_
  refine lv_iconst (v := (0 : Int32)) hx hb dX6_init_117 (by decide) ?_
  refine lv_bipush (v := (105 : Int32)) hx hb dX6_init_118 (by decide) ?_
  replace z := ob z
  obtain ⟨h9, zh9, z⟩ := z
  refine c_cast S hG hH hS zh9 dX6_init_120 (fun H locs hH hS => ?_)
  refine lv_dup hx hb dX6_init_121 (ct_r _) ?_
  refine lv_iconst (v := (1 : Int32)) hx hb dX6_init_122 (by decide) ?_
  refine lv_bipush (v := (115 : Int32)) hx hb dX6_init_123 (by decide) ?_
  replace z := ob z
  obtain ⟨h10, zh10, z⟩ := z
  refine c_cast S hG hH hS zh10 dX6_init_125 (fun H locs hH hS => ?_)
  replace z := ob z
  obtain ⟨h11, zh11, z⟩ := z
  refine c_putF S hG hH hS (ci := 22) (k := 13) rfl in_X6 tyX6 tyX6_ok nmX6 (Nat.le_of_ble_eq_true rfl) q1745 (fun _ y => y) rfl hnm rfl (ty := .array .char) rfl (nr_a _) (ft_a _) zh11 dX6_init_126 (fun H locs hH hS => ?_)
  refine c_aload_n hx hb dX6_init_129 rfl (lv_at hl 0 rfl) ?_
  refine lv_bipush (v := (6 : Int32)) hx hb dX6_init_130 (by decide) ?_
  replace z := ob z
  obtain ⟨h12, zh12, z⟩ := z
  refine c_newa S hG hH hS hRM 2 (atype := .char) (ty := .char) rfl rfl (fun y => y) (by decide) q686 (fun _ => rfl) zh12 dX6_init_132 (fun H locs hH hS => ?_)
  refine lv_dup hx hb dX6_init_134 (ct_r _) ?_
  refine lv_iconst (v := (0 : Int32)) hx hb dX6_init_135 (by decide) ?_
  refine lv_bipush (v := (112 : Int32)) hx hb dX6_init_136 (by decide) ?_
  replace z := ob z
  obtain ⟨h13, zh13, z⟩ := z
  refine c_cast S hG hH hS zh13 dX6_init_138 (fun H locs hH hS => ?_)
  refine lv_dup hx hb dX6_init_139 (ct_r _) ?_
  refine lv_iconst (v := (1 : Int32)) hx hb dX6_init_140 (by decide) ?_
  refine lv_bipush (v := (101 : Int32)) hx hb dX6_init_141 (by decide) ?_
  replace z := ob z
  obtain ⟨h14, zh14, z⟩ := z
  refine c_cast S hG hH hS zh14 dX6_init_143 (fun H locs hH hS => ?_)
  refine lv_dup hx hb dX6_init_144 (ct_r _) ?_
  refine lv_iconst (v := (2 : Int32)) hx hb dX6_init_145 (by decide) ?_
  refine lv_bipush (v := (114 : Int32)) hx hb dX6_init_146 (by decide) ?_
  replace z := ob z
  obtain ⟨h15, zh15, z⟩ := z
  refine c_cast S hG hH hS zh15 dX6_init_148 (fun H locs hH hS => ?_)
  refine lv_dup hx hb dX6_init_149 (ct_r _) ?_
  refine lv_iconst (v := (3 : Int32)) hx hb dX6_init_150 (by decide) ?_
  refine lv_bipush (v := (115 : Int32)) hx hb dX6_init_151 (by decide) ?_
  replace z := ob z
  obtain ⟨h16, zh16, z⟩ := z
  refine c_cast S hG hH hS zh16 dX6_init_153 (fun H locs hH hS => ?_)
  refine lv_dup hx hb dX6_init_154 (ct_r _) ?_
  refine lv_iconst (v := (4 : Int32)) hx hb dX6_init_155 (by decide) ?_
  refine lv_bipush (v := (111 : Int32)) hx hb dX6_init_156 (by decide) ?_
  replace z := ob z
  obtain ⟨h17, zh17, z⟩ := z
  refine c_cast S hG hH hS zh17 dX6_init_158 (fun H locs hH hS => ?_)
  refine lv_dup hx hb dX6_init_159 (ct_r _) ?_
  refine lv_iconst (v := (5 : Int32)) hx hb dX6_init_160 (by decide) ?_
  refine lv_bipush (v := (110 : Int32)) hx hb dX6_init_161 (by decide) ?_
  replace z := ob z
  obtain ⟨h18, zh18, z⟩ := z
  refine c_cast S hG hH hS zh18 dX6_init_163 (fun H locs hH hS => ?_)
  replace z := ob z
  obtain ⟨h19, zh19, z⟩ := z
  refine c_putF S hG hH hS (ci := 22) (k := 14) rfl in_X6 tyX6 tyX6_ok nmX6 (Nat.le_of_ble_eq_true rfl) q1746 (fun _ y => y) rfl hnm rfl (ty := .array .char) rfl (nr_a _) (ft_a _) zh19 dX6_init_164 (fun H locs hH hS => ?_)
  exact wX6_init_167 S hr hlk hnm hG hRM h19 z _ _ hH hS _ (lv_sub hl [0] rfl)
set_option maxHeartbeats 4000000 in
theorem metX6_init {l : Launch} {A : Nat → Prop} {D : va_G} {ac : Nat → ClassId} {K : KE} {h : HS} {a0 : Nat} {x : HS} (z : fX6_init K h a0 = some x) : Met l yX6_init (ws_ yX6_init cX6_init 1 (none)) (rmC 2 40 K h) (cP A D ac K h [va_rf (some a0)]) (cQv A D ac K x) (K.2.2.1 - h.2.1) (K.2.2.2 - h.2.2) A := by
  refine c_entry (plainFor_of_name (by decide)) (Nat.le_of_ble_eq_true rfl) ?_
  intro p e s m below meth c S hr hlk hnm hG hRM hH hS ls hl
  replace hl : lv_has ls 1 [(0, va_rf (some a0))] := hl
  replace hnm : meth.name = "<init>" := hnm
  replace S : CallFix p m c cX6_init 1 s _ lw_all RX6 := S
  obtain ⟨hx, hb, hml, hown, hts⟩ := id S
  unfold fX6_init at z
  refine c_aload_n hx hb dX6_init_0 rfl (lv_at hl 0 rfl) ?_
  refine c_obj S q1731 q213 q214 hl.1 (Nat.le_of_ble_eq_true rfl) (Nat.le_of_ble_eq_true rfl) (Nat.le_of_ble_eq_true rfl) dX6_init_1 ?_
  refine c_aload_n hx hb dX6_init_4 rfl (lv_at hl 0 rfl) ?_
  refine lv_sipush (v := (1600 : Int32)) hx hb dX6_init_5 (by decide) ?_
  replace z := ob z
  obtain ⟨h1, zh1, z⟩ := z
  refine c_newa S hG hH hS hRM 0 (atype := .int) (ty := .int) rfl rfl (fun y => y) (by decide) q473 (fun _ => rfl) zh1 dX6_init_8 (fun H locs hH hS => ?_)
  replace z := ob z
  obtain ⟨h2, zh2, z⟩ := z
  refine c_putF S hG hH hS (ci := 22) (k := 0) rfl in_X6 tyX6 tyX6_ok nmX6 (Nat.le_of_ble_eq_true rfl) q1732 (fun _ y => y) rfl hnm rfl (ty := .array .int) rfl (nr_a _) (ft_a _) zh2 dX6_init_10 (fun H locs hH hS => ?_)
  refine c_aload_n hx hb dX6_init_13 rfl (lv_at hl 0 rfl) ?_
  refine lv_iconst (v := (-1 : Int32)) hx hb dX6_init_14 (by decide) ?_
  replace z := ob z
  obtain ⟨h3, zh3, z⟩ := z
  refine c_put S hG hH hS (ci := 22) (k := 8) rfl in_X6 tyX6 tyX6_ok nmX6 (Nat.le_of_ble_eq_true rfl) q1740 (fun _ y => y) rfl (ty := .int) rfl rfl rfl zh3 dX6_init_15 (fun H locs hH hS => ?_)
  refine c_aload_n hx hb dX6_init_18 rfl (lv_at hl 0 rfl) ?_
  refine lv_bipush (v := (6 : Int32)) hx hb dX6_init_19 (by decide) ?_
  replace z := ob z
  obtain ⟨h4, zh4, z⟩ := z
  refine c_newa S hG hH hS hRM 0 (atype := .int) (ty := .int) rfl rfl (fun y => y) (by decide) q473 (fun _ => rfl) zh4 dX6_init_21 (fun H locs hH hS => ?_)
  replace z := ob z
  obtain ⟨h5, zh5, z⟩ := z
  refine c_putF S hG hH hS (ci := 22) (k := 9) rfl in_X6 tyX6 tyX6_ok nmX6 (Nat.le_of_ble_eq_true rfl) q1741 (fun _ y => y) rfl hnm rfl (ty := .array .int) rfl (nr_a _) (ft_a _) zh5 dX6_init_23 (fun H locs hH hS => ?_)
  refine c_aload_n hx hb dX6_init_26 rfl (lv_at hl 0 rfl) ?_
  refine lv_iconst (v := (4 : Int32)) hx hb dX6_init_27 (by decide) ?_
  replace z := ob z
  obtain ⟨h6, zh6, z⟩ := z
  refine c_newa S hG hH hS hRM 2 (atype := .char) (ty := .char) rfl rfl (fun y => y) (by decide) q686 (fun _ => rfl) zh6 dX6_init_28 (fun H locs hH hS => ?_)
  refine lv_dup hx hb dX6_init_30 (ct_r _) ?_
  refine lv_iconst (v := (0 : Int32)) hx hb dX6_init_31 (by decide) ?_
  refine lv_bipush (v := (107 : Int32)) hx hb dX6_init_32 (by decide) ?_
  replace z := ob z
  obtain ⟨h7, zh7, z⟩ := z
  refine c_cast S hG hH hS zh7 dX6_init_34 (fun H locs hH hS => ?_)
  refine lv_dup hx hb dX6_init_35 (ct_r _) ?_
  refine lv_iconst (v := (1 : Int32)) hx hb dX6_init_36 (by decide) ?_
  refine lv_bipush (v := (105 : Int32)) hx hb dX6_init_37 (by decide) ?_
  replace z := ob z
  obtain ⟨h8, zh8, z⟩ := z
  refine c_cast S hG hH hS zh8 dX6_init_39 (fun H locs hH hS => ?_)
  refine lv_dup hx hb dX6_init_40 (ct_r _) ?_
  refine lv_iconst (v := (2 : Int32)) hx hb dX6_init_41 (by decide) ?_
  refine lv_bipush (v := (110 : Int32)) hx hb dX6_init_42 (by decide) ?_
  replace z := ob z
  obtain ⟨h9, zh9, z⟩ := z
  refine c_cast S hG hH hS zh9 dX6_init_44 (fun H locs hH hS => ?_)
  refine lv_dup hx hb dX6_init_45 (ct_r _) ?_
  refine lv_iconst (v := (3 : Int32)) hx hb dX6_init_46 (by decide) ?_
  refine lv_bipush (v := (100 : Int32)) hx hb dX6_init_47 (by decide) ?_
  replace z := ob z
  obtain ⟨h10, zh10, z⟩ := z
  refine c_cast S hG hH hS zh10 dX6_init_49 (fun H locs hH hS => ?_)
  replace z := ob z
  obtain ⟨h11, zh11, z⟩ := z
  refine c_putF S hG hH hS (ci := 22) (k := 10) rfl in_X6 tyX6 tyX6_ok nmX6 (Nat.le_of_ble_eq_true rfl) q1742 (fun _ y => y) rfl hnm rfl (ty := .array .char) rfl (nr_a _) (ft_a _) zh11 dX6_init_50 (fun H locs hH hS => ?_)
  refine c_aload_n hx hb dX6_init_53 rfl (lv_at hl 0 rfl) ?_
  refine lv_iconst (v := (4 : Int32)) hx hb dX6_init_54 (by decide) ?_
  replace z := ob z
  obtain ⟨h12, zh12, z⟩ := z
  refine c_newa S hG hH hS hRM 2 (atype := .char) (ty := .char) rfl rfl (fun y => y) (by decide) q686 (fun _ => rfl) zh12 dX6_init_55 (fun H locs hH hS => ?_)
  refine lv_dup hx hb dX6_init_57 (ct_r _) ?_
  refine lv_iconst (v := (0 : Int32)) hx hb dX6_init_58 (by decide) ?_
  refine lv_bipush (v := (102 : Int32)) hx hb dX6_init_59 (by decide) ?_
  replace z := ob z
  obtain ⟨h13, zh13, z⟩ := z
  refine c_cast S hG hH hS zh13 dX6_init_61 (fun H locs hH hS => ?_)
  refine lv_dup hx hb dX6_init_62 (ct_r _) ?_
  refine lv_iconst (v := (1 : Int32)) hx hb dX6_init_63 (by decide) ?_
  refine lv_bipush (v := (105 : Int32)) hx hb dX6_init_64 (by decide) ?_
  replace z := ob z
  obtain ⟨h14, zh14, z⟩ := z
  refine c_cast S hG hH hS zh14 dX6_init_66 (fun H locs hH hS => ?_)
  refine lv_dup hx hb dX6_init_67 (ct_r _) ?_
  refine lv_iconst (v := (2 : Int32)) hx hb dX6_init_68 (by decide) ?_
  refine lv_bipush (v := (108 : Int32)) hx hb dX6_init_69 (by decide) ?_
  replace z := ob z
  obtain ⟨h15, zh15, z⟩ := z
  refine c_cast S hG hH hS zh15 dX6_init_71 (fun H locs hH hS => ?_)
  refine lv_dup hx hb dX6_init_72 (ct_r _) ?_
  refine lv_iconst (v := (3 : Int32)) hx hb dX6_init_73 (by decide) ?_
  refine lv_bipush (v := (109 : Int32)) hx hb dX6_init_74 (by decide) ?_
  replace z := ob z
  obtain ⟨h16, zh16, z⟩ := z
  refine c_cast S hG hH hS zh16 dX6_init_76 (fun H locs hH hS => ?_)
  replace z := ob z
  obtain ⟨h17, zh17, z⟩ := z
  refine c_putF S hG hH hS (ci := 22) (k := 11) rfl in_X6 tyX6 tyX6_ok nmX6 (Nat.le_of_ble_eq_true rfl) q1743 (fun _ y => y) rfl hnm rfl (ty := .array .char) rfl (nr_a _) (ft_a _) zh17 dX6_init_77 (fun H locs hH hS => ?_)
  exact wX6_init_80 S hr hlk hnm hG hRM h17 z _ _ hH hS _ (lv_sub hl [0] rfl)

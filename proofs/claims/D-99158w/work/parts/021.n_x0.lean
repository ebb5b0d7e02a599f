/-! FourOnOne -/
set_option maxRecDepth 100000
def RX0 : String := "FourOnOne"
def TX0 : u_T := fun k => match k with
  | 0 => ("FourOnOne", "house", "LFourOnOne$House;", false)
  | 1 => ("FourOnOne", "tape", "[B", true)
  | 2 => ("FourOnOne", "taped", "I", false)
  | 3 => ("FourOnOne", "faultKind", "I", false)
  | 4 => ("FourOnOne", "faultPlace", "I", false)
  | 5 => ("FourOnOne", "reader", "LFourOnOne$Reader;", true)
  | 6 => ("FourOnOne", "moment", "LFourOnOne$Moment;", true)
  | 7 => ("FourOnOne", "asked", "LFourOnOne$Moment;", true)
  | 8 => ("FourOnOne", "refusals", "[I", true)
  | 9 => ("FourOnOne", "now", "LFourOnOne$State;", true)
  | 10 => ("FourOnOne", "tried", "LFourOnOne$State;", true)
  | 11 => ("FourOnOne", "bySet", "[[J", true)
  | 12 => ("FourOnOne", "rowHour", "[I", true)
  | 13 => ("FourOnOne", "rowFilm", "[I", true)
  | 14 => ("FourOnOne", "rowSeen", "[Z", true)
  | 15 => ("FourOnOne", "rows", "I", false)
  | 16 => ("FourOnOne", "kept", "[LFourOnOne$State;", true)
  | 17 => ("FourOnOne", "undos", "I", false)
  | 18 => ("FourOnOne", "seeds", "J", false)
  | 19 => ("FourOnOne", "askedFilm", "I", false)
  | 20 => ("FourOnOne", "out", "[B", true)
  | _ => ("FourOnOne", "outs", "I", false)
def tyX0 : Nat → FieldType := fun k => match k with
  | 0 => .object "FourOnOne$House"
  | 1 => .array .byte
  | 2 => .int
  | 3 => .int
  | 4 => .int
  | 5 => .object "FourOnOne$Reader"
  | 6 => .object "FourOnOne$Moment"
  | 7 => .object "FourOnOne$Moment"
  | 8 => .array .int
  | 9 => .object "FourOnOne$State"
  | 10 => .object "FourOnOne$State"
  | 11 => .array (.array .long)
  | 12 => .array .int
  | 13 => .array .int
  | 14 => .array .boolean
  | 15 => .int
  | 16 => .array (.object "FourOnOne$State")
  | 17 => .int
  | 18 => .long
  | 19 => .int
  | 20 => .array .byte
  | _ => .int
abbrev wsX00 : List Cond := u_ws RX0 TX0 22
set_option maxRecDepth 100000 in
theorem nmX0 : ∀ a, a < 22 → ∀ b, b < 22 → a ≠ b → (TX0 a).2.1 ≠ (TX0 b).2.1 := by decide +kernel
set_option maxRecDepth 100000 in
theorem tyX0_ok : ∀ k, k < 22 → parseFieldDescriptor (TX0 k).2.2.1 = some (tyX0 k) := by decide +kernel
abbrev cX0_init : ByteArray := prog_1_method_7_code
def yX0_init : MethodName := ⟨RX0, "<init>", "()V"⟩
def dkwX0_init_7 : List UInt8 := [132, 1, 1, 167, 255, 233, 42, 10, 181, 0, 97, 42, 17, 0, 139, 188, 8, 181, 0, 101, 177]
abbrev dktX0_init_7 : List UInt8 := dkwX0_init_7 ++ []
def dkwX0_init_6 : List UInt8 := [3, 60, 27, 16, 20, 162, 0, 23, 42, 180, 0, 93, 27, 187, 0, 68, 89, 42, 183, 0, 70, 83]
abbrev dktX0_init_6 : List UInt8 := dkwX0_init_6 ++ dktX0_init_7
def dkwX0_init_5 : List UInt8 := [16, 16, 188, 10, 181, 0, 86, 42, 16, 16, 188, 4, 181, 0, 89, 42, 16, 20, 189, 0, 68, 181, 0, 93]
abbrev dktX0_init_5 : List UInt8 := dkwX0_init_5 ++ dktX0_init_6
def dkwX0_init_4 : List UInt8 := [181, 0, 75, 42, 16, 32, 8, 197, 0, 78, 2, 181, 0, 80, 42, 16, 16, 188, 10, 181, 0, 83, 42]
abbrev dktX0_init_4 : List UInt8 := dkwX0_init_4 ++ dktX0_init_5
def dkwX0_init_3 : List UInt8 := [181, 0, 64, 42, 187, 0, 68, 89, 42, 183, 0, 70, 181, 0, 71, 42, 187, 0, 68, 89, 42, 183, 0, 70]
abbrev dktX0_init_3 : List UInt8 := dkwX0_init_3 ++ dktX0_init_4
def dkwX0_init_2 : List UInt8 := [183, 0, 56, 181, 0, 57, 42, 187, 0, 54, 89, 183, 0, 56, 181, 0, 61, 42, 16, 6, 188, 10]
abbrev dktX0_init_2 : List UInt8 := dkwX0_init_2 ++ dktX0_init_3
def dkwX0_init_1 : List UInt8 := [42, 2, 181, 0, 41, 42, 187, 0, 45, 89, 42, 183, 0, 47, 181, 0, 50, 42, 187, 0, 54, 89]
abbrev dktX0_init_1 : List UInt8 := dkwX0_init_1 ++ dktX0_init_2
def dkwX0_init_0 : List UInt8 := [42, 183, 0, 24, 42, 187, 0, 30, 89, 183, 0, 32, 181, 0, 33, 42, 17, 6, 64, 188, 8, 181, 0, 37]
abbrev dktX0_init_0 : List UInt8 := dkwX0_init_0 ++ dktX0_init_1
theorem dksX0_init_0 : cX0_init.data.toList.drop 0 = dktX0_init_0 := by decide +kernel
theorem dksX0_init_1 : cX0_init.data.toList.drop 24 = dktX0_init_1 := dk_seg dksX0_init_0 24 rfl rfl
theorem dksX0_init_2 : cX0_init.data.toList.drop 46 = dktX0_init_2 := dk_seg dksX0_init_1 22 rfl rfl
theorem dksX0_init_3 : cX0_init.data.toList.drop 68 = dktX0_init_3 := dk_seg dksX0_init_2 22 rfl rfl
theorem dksX0_init_4 : cX0_init.data.toList.drop 92 = dktX0_init_4 := dk_seg dksX0_init_3 24 rfl rfl
theorem dksX0_init_5 : cX0_init.data.toList.drop 115 = dktX0_init_5 := dk_seg dksX0_init_4 23 rfl rfl
theorem dksX0_init_6 : cX0_init.data.toList.drop 139 = dktX0_init_6 := dk_seg dksX0_init_5 24 rfl rfl
theorem dksX0_init_7 : cX0_init.data.toList.drop 161 = dktX0_init_7 := dk_seg dksX0_init_6 22 rfl rfl
theorem dX0_init_0 : decode cX0_init 0 = .ok (.aload_n 0, 1) := dk_42 (dk_at dksX0_init_0 0 rfl rfl)
theorem dX0_init_1 : decode cX0_init 1 = .ok (.invokespecial 24, 3) := dk_183 0 24 (dk_at dksX0_init_0 1 rfl rfl)
theorem dX0_init_4 : decode cX0_init 4 = .ok (.aload_n 0, 1) := dk_42 (dk_at dksX0_init_0 4 rfl rfl)
theorem dX0_init_5 : decode cX0_init 5 = .ok (.new 30, 3) := dk_187 0 30 (dk_at dksX0_init_0 5 rfl rfl)
theorem dX0_init_8 : decode cX0_init 8 = .ok (.dup, 1) := dk_89 (dk_at dksX0_init_0 8 rfl rfl)
theorem dX0_init_9 : decode cX0_init 9 = .ok (.invokespecial 32, 3) := dk_183 0 32 (dk_at dksX0_init_0 9 rfl rfl)
theorem dX0_init_12 : decode cX0_init 12 = .ok (.putfield 33, 3) := dk_181 0 33 (dk_at dksX0_init_0 12 rfl rfl)
theorem dX0_init_15 : decode cX0_init 15 = .ok (.aload_n 0, 1) := dk_42 (dk_at dksX0_init_0 15 rfl rfl)
theorem dX0_init_16 : decode cX0_init 16 = .ok (.sipush 1600, 3) := dk_17 6 64 (dk_at dksX0_init_0 16 rfl rfl)
theorem dX0_init_19 : decode cX0_init 19 = .ok (.newarray .byte, 2) := dk_188_8 (dk_at dksX0_init_0 19 rfl rfl)
theorem dX0_init_21 : decode cX0_init 21 = .ok (.putfield 37, 3) := dk_181 0 37 (dk_at dksX0_init_0 21 rfl rfl)
theorem dX0_init_24 : decode cX0_init 24 = .ok (.aload_n 0, 1) := dk_42 (dk_at dksX0_init_1 0 rfl rfl)
theorem dX0_init_25 : decode cX0_init 25 = .ok (.iconst (-1), 1) := dk_2 (dk_at dksX0_init_1 1 rfl rfl)
theorem dX0_init_26 : decode cX0_init 26 = .ok (.putfield 41, 3) := dk_181 0 41 (dk_at dksX0_init_1 2 rfl rfl)
theorem dX0_init_29 : decode cX0_init 29 = .ok (.aload_n 0, 1) := dk_42 (dk_at dksX0_init_1 5 rfl rfl)
theorem dX0_init_30 : decode cX0_init 30 = .ok (.new 45, 3) := dk_187 0 45 (dk_at dksX0_init_1 6 rfl rfl)
theorem dX0_init_33 : decode cX0_init 33 = .ok (.dup, 1) := dk_89 (dk_at dksX0_init_1 9 rfl rfl)
theorem dX0_init_34 : decode cX0_init 34 = .ok (.aload_n 0, 1) := dk_42 (dk_at dksX0_init_1 10 rfl rfl)
theorem dX0_init_35 : decode cX0_init 35 = .ok (.invokespecial 47, 3) := dk_183 0 47 (dk_at dksX0_init_1 11 rfl rfl)
theorem dX0_init_38 : decode cX0_init 38 = .ok (.putfield 50, 3) := dk_181 0 50 (dk_at dksX0_init_1 14 rfl rfl)
theorem dX0_init_41 : decode cX0_init 41 = .ok (.aload_n 0, 1) := dk_42 (dk_at dksX0_init_1 17 rfl rfl)
theorem dX0_init_42 : decode cX0_init 42 = .ok (.new 54, 3) := dk_187 0 54 (dk_at dksX0_init_1 18 rfl rfl)
theorem dX0_init_45 : decode cX0_init 45 = .ok (.dup, 1) := dk_89 (dk_at dksX0_init_1 21 rfl rfl)
theorem dX0_init_46 : decode cX0_init 46 = .ok (.invokespecial 56, 3) := dk_183 0 56 (dk_at dksX0_init_2 0 rfl rfl)
theorem dX0_init_49 : decode cX0_init 49 = .ok (.putfield 57, 3) := dk_181 0 57 (dk_at dksX0_init_2 3 rfl rfl)
theorem dX0_init_52 : decode cX0_init 52 = .ok (.aload_n 0, 1) := dk_42 (dk_at dksX0_init_2 6 rfl rfl)
theorem dX0_init_53 : decode cX0_init 53 = .ok (.new 54, 3) := dk_187 0 54 (dk_at dksX0_init_2 7 rfl rfl)
theorem dX0_init_56 : decode cX0_init 56 = .ok (.dup, 1) := dk_89 (dk_at dksX0_init_2 10 rfl rfl)
theorem dX0_init_57 : decode cX0_init 57 = .ok (.invokespecial 56, 3) := dk_183 0 56 (dk_at dksX0_init_2 11 rfl rfl)
theorem dX0_init_60 : decode cX0_init 60 = .ok (.putfield 61, 3) := dk_181 0 61 (dk_at dksX0_init_2 14 rfl rfl)
theorem dX0_init_63 : decode cX0_init 63 = .ok (.aload_n 0, 1) := dk_42 (dk_at dksX0_init_2 17 rfl rfl)
theorem dX0_init_64 : decode cX0_init 64 = .ok (.bipush 6, 2) := dk_16 6 (dk_at dksX0_init_2 18 rfl rfl)
theorem dX0_init_66 : decode cX0_init 66 = .ok (.newarray .int, 2) := dk_188_10 (dk_at dksX0_init_2 20 rfl rfl)
theorem dX0_init_68 : decode cX0_init 68 = .ok (.putfield 64, 3) := dk_181 0 64 (dk_at dksX0_init_3 0 rfl rfl)
theorem dX0_init_71 : decode cX0_init 71 = .ok (.aload_n 0, 1) := dk_42 (dk_at dksX0_init_3 3 rfl rfl)
theorem dX0_init_72 : decode cX0_init 72 = .ok (.new 68, 3) := dk_187 0 68 (dk_at dksX0_init_3 4 rfl rfl)
theorem dX0_init_75 : decode cX0_init 75 = .ok (.dup, 1) := dk_89 (dk_at dksX0_init_3 7 rfl rfl)
theorem dX0_init_76 : decode cX0_init 76 = .ok (.aload_n 0, 1) := dk_42 (dk_at dksX0_init_3 8 rfl rfl)
theorem dX0_init_77 : decode cX0_init 77 = .ok (.invokespecial 70, 3) := dk_183 0 70 (dk_at dksX0_init_3 9 rfl rfl)
theorem dX0_init_80 : decode cX0_init 80 = .ok (.putfield 71, 3) := dk_181 0 71 (dk_at dksX0_init_3 12 rfl rfl)
theorem dX0_init_83 : decode cX0_init 83 = .ok (.aload_n 0, 1) := dk_42 (dk_at dksX0_init_3 15 rfl rfl)
theorem dX0_init_84 : decode cX0_init 84 = .ok (.new 68, 3) := dk_187 0 68 (dk_at dksX0_init_3 16 rfl rfl)
theorem dX0_init_87 : decode cX0_init 87 = .ok (.dup, 1) := dk_89 (dk_at dksX0_init_3 19 rfl rfl)
theorem dX0_init_88 : decode cX0_init 88 = .ok (.aload_n 0, 1) := dk_42 (dk_at dksX0_init_3 20 rfl rfl)
theorem dX0_init_89 : decode cX0_init 89 = .ok (.invokespecial 70, 3) := dk_183 0 70 (dk_at dksX0_init_3 21 rfl rfl)
theorem dX0_init_92 : decode cX0_init 92 = .ok (.putfield 75, 3) := dk_181 0 75 (dk_at dksX0_init_4 0 rfl rfl)
theorem dX0_init_95 : decode cX0_init 95 = .ok (.aload_n 0, 1) := dk_42 (dk_at dksX0_init_4 3 rfl rfl)
theorem dX0_init_96 : decode cX0_init 96 = .ok (.bipush 32, 2) := dk_16 32 (dk_at dksX0_init_4 4 rfl rfl)
theorem dX0_init_98 : decode cX0_init 98 = .ok (.iconst 5, 1) := dk_8 (dk_at dksX0_init_4 6 rfl rfl)
theorem dX0_init_99 : decode cX0_init 99 = .ok (.multianewarray 78 2, 4) := by decide +kernel
theorem dX0_init_103 : decode cX0_init 103 = .ok (.putfield 80, 3) := dk_181 0 80 (dk_at dksX0_init_4 11 rfl rfl)
theorem dX0_init_106 : decode cX0_init 106 = .ok (.aload_n 0, 1) := dk_42 (dk_at dksX0_init_4 14 rfl rfl)
theorem dX0_init_107 : decode cX0_init 107 = .ok (.bipush 16, 2) := dk_16 16 (dk_at dksX0_init_4 15 rfl rfl)
theorem dX0_init_109 : decode cX0_init 109 = .ok (.newarray .int, 2) := dk_188_10 (dk_at dksX0_init_4 17 rfl rfl)
theorem dX0_init_111 : decode cX0_init 111 = .ok (.putfield 83, 3) := dk_181 0 83 (dk_at dksX0_init_4 19 rfl rfl)
theorem dX0_init_114 : decode cX0_init 114 = .ok (.aload_n 0, 1) := dk_42 (dk_at dksX0_init_4 22 rfl rfl)
theorem dX0_init_115 : decode cX0_init 115 = .ok (.bipush 16, 2) := dk_16 16 (dk_at dksX0_init_5 0 rfl rfl)
theorem dX0_init_117 : decode cX0_init 117 = .ok (.newarray .int, 2) := dk_188_10 (dk_at dksX0_init_5 2 rfl rfl)
theorem dX0_init_119 : decode cX0_init 119 = .ok (.putfield 86, 3) := dk_181 0 86 (dk_at dksX0_init_5 4 rfl rfl)
theorem dX0_init_122 : decode cX0_init 122 = .ok (.aload_n 0, 1) := dk_42 (dk_at dksX0_init_5 7 rfl rfl)
theorem dX0_init_123 : decode cX0_init 123 = .ok (.bipush 16, 2) := dk_16 16 (dk_at dksX0_init_5 8 rfl rfl)
theorem dX0_init_125 : decode cX0_init 125 = .ok (.newarray .boolean, 2) := dk_188_4 (dk_at dksX0_init_5 10 rfl rfl)
theorem dX0_init_127 : decode cX0_init 127 = .ok (.putfield 89, 3) := dk_181 0 89 (dk_at dksX0_init_5 12 rfl rfl)
theorem dX0_init_130 : decode cX0_init 130 = .ok (.aload_n 0, 1) := dk_42 (dk_at dksX0_init_5 15 rfl rfl)
theorem dX0_init_131 : decode cX0_init 131 = .ok (.bipush 20, 2) := dk_16 20 (dk_at dksX0_init_5 16 rfl rfl)
theorem dX0_init_133 : decode cX0_init 133 = .ok (.anewarray 68, 3) := dk_189 0 68 (dk_at dksX0_init_5 18 rfl rfl)
theorem dX0_init_136 : decode cX0_init 136 = .ok (.putfield 93, 3) := dk_181 0 93 (dk_at dksX0_init_5 21 rfl rfl)
theorem dX0_init_139 : decode cX0_init 139 = .ok (.iconst 0, 1) := dk_3 (dk_at dksX0_init_6 0 rfl rfl)
theorem dX0_init_140 : decode cX0_init 140 = .ok (.istore_n 1, 1) := dk_60 (dk_at dksX0_init_6 1 rfl rfl)
theorem dX0_init_141 : decode cX0_init 141 = .ok (.iload_n 1, 1) := dk_27 (dk_at dksX0_init_6 2 rfl rfl)
theorem dX0_init_142 : decode cX0_init 142 = .ok (.bipush 20, 2) := dk_16 20 (dk_at dksX0_init_6 3 rfl rfl)
theorem dX0_init_144 : decode cX0_init 144 = .ok (.if_icmp .ge 23, 3) := dk_162 0 23 (dk_at dksX0_init_6 5 rfl rfl)
theorem dX0_init_147 : decode cX0_init 147 = .ok (.aload_n 0, 1) := dk_42 (dk_at dksX0_init_6 8 rfl rfl)
theorem dX0_init_148 : decode cX0_init 148 = .ok (.getfield 93, 3) := dk_180 0 93 (dk_at dksX0_init_6 9 rfl rfl)
theorem dX0_init_151 : decode cX0_init 151 = .ok (.iload_n 1, 1) := dk_27 (dk_at dksX0_init_6 12 rfl rfl)
theorem dX0_init_152 : decode cX0_init 152 = .ok (.new 68, 3) := dk_187 0 68 (dk_at dksX0_init_6 13 rfl rfl)
theorem dX0_init_155 : decode cX0_init 155 = .ok (.dup, 1) := dk_89 (dk_at dksX0_init_6 16 rfl rfl)
theorem dX0_init_156 : decode cX0_init 156 = .ok (.aload_n 0, 1) := dk_42 (dk_at dksX0_init_6 17 rfl rfl)
theorem dX0_init_157 : decode cX0_init 157 = .ok (.invokespecial 70, 3) := dk_183 0 70 (dk_at dksX0_init_6 18 rfl rfl)
theorem dX0_init_160 : decode cX0_init 160 = .ok (.aastore, 1) := dk_83 (dk_at dksX0_init_6 21 rfl rfl)
theorem dX0_init_161 : decode cX0_init 161 = .ok (.iinc 1 1, 3) := dk_132 1 1 (dk_at dksX0_init_7 0 rfl rfl)
theorem dX0_init_164 : decode cX0_init 164 = .ok (.goto (-23), 3) := dk_167 255 233 (dk_at dksX0_init_7 3 rfl rfl)
theorem dX0_init_167 : decode cX0_init 167 = .ok (.aload_n 0, 1) := dk_42 (dk_at dksX0_init_7 6 rfl rfl)
theorem dX0_init_168 : decode cX0_init 168 = .ok (.lconst 1, 1) := dk_10 (dk_at dksX0_init_7 7 rfl rfl)
theorem dX0_init_169 : decode cX0_init 169 = .ok (.putfield 97, 3) := dk_181 0 97 (dk_at dksX0_init_7 8 rfl rfl)
theorem dX0_init_172 : decode cX0_init 172 = .ok (.aload_n 0, 1) := dk_42 (dk_at dksX0_init_7 11 rfl rfl)
theorem dX0_init_173 : decode cX0_init 173 = .ok (.sipush 139, 3) := dk_17 0 139 (dk_at dksX0_init_7 12 rfl rfl)
theorem dX0_init_176 : decode cX0_init 176 = .ok (.newarray .byte, 2) := dk_188_8 (dk_at dksX0_init_7 15 rfl rfl)
theorem dX0_init_178 : decode cX0_init 178 = .ok (.putfield 101, 3) := dk_181 0 101 (dk_at dksX0_init_7 17 rfl rfl)
theorem dX0_init_181 : decode cX0_init 181 = .ok (.return_, 1) := dk_177 (dk_at dksX0_init_7 20 rfl rfl)
abbrev cX0_feed : ByteArray := prog_1_method_10_code
def yX0_feed : MethodName := ⟨RX0, "feed", "(IIIII)I"⟩
def dkwX0_feed_2 : List UInt8 := [180, 0, 104, 172]
abbrev dktX0_feed_2 : List UInt8 := dkwX0_feed_2 ++ []
def dkwX0_feed_1 : List UInt8 := [42, 28, 182, 0, 111, 42, 29, 182, 0, 111, 42, 21, 4, 182, 0, 111, 42, 21, 5, 182, 0, 111, 42]
abbrev dktX0_feed_1 : List UInt8 := dkwX0_feed_1 ++ dktX0_feed_2
def dkwX0_feed_0 : List UInt8 := [42, 180, 0, 104, 16, 20, 96, 17, 6, 64, 164, 0, 9, 42, 3, 182, 0, 107, 172, 42, 27, 182, 0, 111]
abbrev dktX0_feed_0 : List UInt8 := dkwX0_feed_0 ++ dktX0_feed_1
theorem dksX0_feed_0 : cX0_feed.data.toList.drop 0 = dktX0_feed_0 := by decide +kernel
theorem dksX0_feed_1 : cX0_feed.data.toList.drop 24 = dktX0_feed_1 := dk_seg dksX0_feed_0 24 rfl rfl
theorem dksX0_feed_2 : cX0_feed.data.toList.drop 47 = dktX0_feed_2 := dk_seg dksX0_feed_1 23 rfl rfl
theorem dX0_feed_0 : decode cX0_feed 0 = .ok (.aload_n 0, 1) := dk_42 (dk_at dksX0_feed_0 0 rfl rfl)
theorem dX0_feed_1 : decode cX0_feed 1 = .ok (.getfield 104, 3) := dk_180 0 104 (dk_at dksX0_feed_0 1 rfl rfl)
theorem dX0_feed_4 : decode cX0_feed 4 = .ok (.bipush 20, 2) := dk_16 20 (dk_at dksX0_feed_0 4 rfl rfl)
theorem dX0_feed_6 : decode cX0_feed 6 = .ok (.iadd, 1) := dk_96 (dk_at dksX0_feed_0 6 rfl rfl)
theorem dX0_feed_7 : decode cX0_feed 7 = .ok (.sipush 1600, 3) := dk_17 6 64 (dk_at dksX0_feed_0 7 rfl rfl)
theorem dX0_feed_10 : decode cX0_feed 10 = .ok (.if_icmp .le 9, 3) := dk_164 0 9 (dk_at dksX0_feed_0 10 rfl rfl)
theorem dX0_feed_13 : decode cX0_feed 13 = .ok (.aload_n 0, 1) := dk_42 (dk_at dksX0_feed_0 13 rfl rfl)
theorem dX0_feed_14 : decode cX0_feed 14 = .ok (.iconst 0, 1) := dk_3 (dk_at dksX0_feed_0 14 rfl rfl)
theorem dX0_feed_15 : decode cX0_feed 15 = .ok (.invokevirtual 107, 3) := dk_182 0 107 (dk_at dksX0_feed_0 15 rfl rfl)
theorem dX0_feed_18 : decode cX0_feed 18 = .ok (.ireturn, 1) := dk_172 (dk_at dksX0_feed_0 18 rfl rfl)
theorem dX0_feed_19 : decode cX0_feed 19 = .ok (.aload_n 0, 1) := dk_42 (dk_at dksX0_feed_0 19 rfl rfl)
theorem dX0_feed_20 : decode cX0_feed 20 = .ok (.iload_n 1, 1) := dk_27 (dk_at dksX0_feed_0 20 rfl rfl)
theorem dX0_feed_21 : decode cX0_feed 21 = .ok (.invokevirtual 111, 3) := dk_182 0 111 (dk_at dksX0_feed_0 21 rfl rfl)
theorem dX0_feed_24 : decode cX0_feed 24 = .ok (.aload_n 0, 1) := dk_42 (dk_at dksX0_feed_1 0 rfl rfl)
theorem dX0_feed_25 : decode cX0_feed 25 = .ok (.iload_n 2, 1) := dk_28 (dk_at dksX0_feed_1 1 rfl rfl)
theorem dX0_feed_26 : decode cX0_feed 26 = .ok (.invokevirtual 111, 3) := dk_182 0 111 (dk_at dksX0_feed_1 2 rfl rfl)
theorem dX0_feed_29 : decode cX0_feed 29 = .ok (.aload_n 0, 1) := dk_42 (dk_at dksX0_feed_1 5 rfl rfl)
theorem dX0_feed_30 : decode cX0_feed 30 = .ok (.iload_n 3, 1) := dk_29 (dk_at dksX0_feed_1 6 rfl rfl)
theorem dX0_feed_31 : decode cX0_feed 31 = .ok (.invokevirtual 111, 3) := dk_182 0 111 (dk_at dksX0_feed_1 7 rfl rfl)
theorem dX0_feed_34 : decode cX0_feed 34 = .ok (.aload_n 0, 1) := dk_42 (dk_at dksX0_feed_1 10 rfl rfl)
theorem dX0_feed_35 : decode cX0_feed 35 = .ok (.iload 4, 2) := dk_21 4 (dk_at dksX0_feed_1 11 rfl rfl)
theorem dX0_feed_37 : decode cX0_feed 37 = .ok (.invokevirtual 111, 3) := dk_182 0 111 (dk_at dksX0_feed_1 13 rfl rfl)
theorem dX0_feed_40 : decode cX0_feed 40 = .ok (.aload_n 0, 1) := dk_42 (dk_at dksX0_feed_1 16 rfl rfl)
theorem dX0_feed_41 : decode cX0_feed 41 = .ok (.iload 5, 2) := dk_21 5 (dk_at dksX0_feed_1 17 rfl rfl)
theorem dX0_feed_43 : decode cX0_feed 43 = .ok (.invokevirtual 111, 3) := dk_182 0 111 (dk_at dksX0_feed_1 19 rfl rfl)
theorem dX0_feed_46 : decode cX0_feed 46 = .ok (.aload_n 0, 1) := dk_42 (dk_at dksX0_feed_1 22 rfl rfl)
theorem dX0_feed_47 : decode cX0_feed 47 = .ok (.getfield 104, 3) := dk_180 0 104 (dk_at dksX0_feed_2 0 rfl rfl)
theorem dX0_feed_50 : decode cX0_feed 50 = .ok (.ireturn, 1) := dk_172 (dk_at dksX0_feed_2 3 rfl rfl)
abbrev cX0_refuses : ByteArray := prog_1_method_8_code
def yX0_refuses : MethodName := ⟨RX0, "refuses", "(I)I"⟩
def dkwX0_refuses_0 : List UInt8 := [42, 180, 0, 64, 27, 92, 46, 4, 96, 79, 2, 172]
abbrev dktX0_refuses_0 : List UInt8 := dkwX0_refuses_0 ++ []
theorem dksX0_refuses_0 : cX0_refuses.data.toList.drop 0 = dktX0_refuses_0 := by decide +kernel
theorem dX0_refuses_0 : decode cX0_refuses 0 = .ok (.aload_n 0, 1) := dk_42 (dk_at dksX0_refuses_0 0 rfl rfl)
theorem dX0_refuses_1 : decode cX0_refuses 1 = .ok (.getfield 64, 3) := dk_180 0 64 (dk_at dksX0_refuses_0 1 rfl rfl)
theorem dX0_refuses_4 : decode cX0_refuses 4 = .ok (.iload_n 1, 1) := dk_27 (dk_at dksX0_refuses_0 4 rfl rfl)
theorem dX0_refuses_5 : decode cX0_refuses 5 = .ok (.dup2, 1) := dk_92 (dk_at dksX0_refuses_0 5 rfl rfl)
theorem dX0_refuses_6 : decode cX0_refuses 6 = .ok (.iaload, 1) := dk_46 (dk_at dksX0_refuses_0 6 rfl rfl)
theorem dX0_refuses_7 : decode cX0_refuses 7 = .ok (.iconst 1, 1) := dk_4 (dk_at dksX0_refuses_0 7 rfl rfl)
theorem dX0_refuses_8 : decode cX0_refuses 8 = .ok (.iadd, 1) := dk_96 (dk_at dksX0_refuses_0 8 rfl rfl)
theorem dX0_refuses_9 : decode cX0_refuses 9 = .ok (.iastore, 1) := dk_79 (dk_at dksX0_refuses_0 9 rfl rfl)
theorem dX0_refuses_10 : decode cX0_refuses 10 = .ok (.iconst (-1), 1) := dk_2 (dk_at dksX0_refuses_0 10 rfl rfl)
theorem dX0_refuses_11 : decode cX0_refuses 11 = .ok (.ireturn, 1) := dk_172 (dk_at dksX0_refuses_0 11 rfl rfl)
abbrev cX0_put : ByteArray := prog_1_method_9_code
def yX0_put : MethodName := ⟨RX0, "put", "(I)V"⟩
def dkwX0_put_1 : List UInt8 := [122, 145, 84, 132, 2, 248, 167, 255, 229, 177]
abbrev dktX0_put_1 : List UInt8 := dkwX0_put_1 ++ []
def dkwX0_put_0 : List UInt8 := [16, 24, 61, 28, 155, 0, 29, 42, 180, 0, 37, 42, 89, 180, 0, 104, 90, 4, 96, 181, 0, 104, 27, 28]
abbrev dktX0_put_0 : List UInt8 := dkwX0_put_0 ++ dktX0_put_1
theorem dksX0_put_0 : cX0_put.data.toList.drop 0 = dktX0_put_0 := by decide +kernel
theorem dksX0_put_1 : cX0_put.data.toList.drop 24 = dktX0_put_1 := dk_seg dksX0_put_0 24 rfl rfl
theorem dX0_put_0 : decode cX0_put 0 = .ok (.bipush 24, 2) := dk_16 24 (dk_at dksX0_put_0 0 rfl rfl)
theorem dX0_put_2 : decode cX0_put 2 = .ok (.istore_n 2, 1) := dk_61 (dk_at dksX0_put_0 2 rfl rfl)
theorem dX0_put_3 : decode cX0_put 3 = .ok (.iload_n 2, 1) := dk_28 (dk_at dksX0_put_0 3 rfl rfl)
theorem dX0_put_4 : decode cX0_put 4 = .ok (.ifCond .lt 29, 3) := dk_155 0 29 (dk_at dksX0_put_0 4 rfl rfl)
theorem dX0_put_7 : decode cX0_put 7 = .ok (.aload_n 0, 1) := dk_42 (dk_at dksX0_put_0 7 rfl rfl)
theorem dX0_put_8 : decode cX0_put 8 = .ok (.getfield 37, 3) := dk_180 0 37 (dk_at dksX0_put_0 8 rfl rfl)
theorem dX0_put_11 : decode cX0_put 11 = .ok (.aload_n 0, 1) := dk_42 (dk_at dksX0_put_0 11 rfl rfl)
theorem dX0_put_12 : decode cX0_put 12 = .ok (.dup, 1) := dk_89 (dk_at dksX0_put_0 12 rfl rfl)
theorem dX0_put_13 : decode cX0_put 13 = .ok (.getfield 104, 3) := dk_180 0 104 (dk_at dksX0_put_0 13 rfl rfl)
theorem dX0_put_16 : decode cX0_put 16 = .ok (.dup_x1, 1) := dk_90 (dk_at dksX0_put_0 16 rfl rfl)
theorem dX0_put_17 : decode cX0_put 17 = .ok (.iconst 1, 1) := dk_4 (dk_at dksX0_put_0 17 rfl rfl)
theorem dX0_put_18 : decode cX0_put 18 = .ok (.iadd, 1) := dk_96 (dk_at dksX0_put_0 18 rfl rfl)
theorem dX0_put_19 : decode cX0_put 19 = .ok (.putfield 104, 3) := dk_181 0 104 (dk_at dksX0_put_0 19 rfl rfl)
theorem dX0_put_22 : decode cX0_put 22 = .ok (.iload_n 1, 1) := dk_27 (dk_at dksX0_put_0 22 rfl rfl)
theorem dX0_put_23 : decode cX0_put 23 = .ok (.iload_n 2, 1) := dk_28 (dk_at dksX0_put_0 23 rfl rfl)
theorem dX0_put_24 : decode cX0_put 24 = .ok (.ishr, 1) := dk_122 (dk_at dksX0_put_1 0 rfl rfl)
theorem dX0_put_25 : decode cX0_put 25 = .ok (.i2b, 1) := dk_145 (dk_at dksX0_put_1 1 rfl rfl)
theorem dX0_put_26 : decode cX0_put 26 = .ok (.bastore, 1) := dk_84 (dk_at dksX0_put_1 2 rfl rfl)
theorem dX0_put_27 : decode cX0_put 27 = .ok (.iinc 2 (-8), 3) := dk_132 2 248 (dk_at dksX0_put_1 3 rfl rfl)
theorem dX0_put_30 : decode cX0_put 30 = .ok (.goto (-27), 3) := dk_167 255 229 (dk_at dksX0_put_1 6 rfl rfl)
theorem dX0_put_33 : decode cX0_put 33 = .ok (.return_, 1) := dk_177 (dk_at dksX0_put_1 9 rfl rfl)
abbrev cX0_end : ByteArray := prog_1_method_11_code
def yX0_end : MethodName := ⟨RX0, "end", "(I)Z"⟩
def dkwX0_end_1 : List UInt8 := [3, 172, 42, 27, 181, 0, 104, 4, 172]
abbrev dktX0_end_1 : List UInt8 := dkwX0_end_1 ++ []
def dkwX0_end_0 : List UInt8 := [27, 155, 0, 11, 27, 42, 180, 0, 104, 164, 0, 17, 42, 3, 182, 0, 107, 155, 0, 7, 4, 167, 0, 4]
abbrev dktX0_end_0 : List UInt8 := dkwX0_end_0 ++ dktX0_end_1
theorem dksX0_end_0 : cX0_end.data.toList.drop 0 = dktX0_end_0 := by decide +kernel
theorem dksX0_end_1 : cX0_end.data.toList.drop 24 = dktX0_end_1 := dk_seg dksX0_end_0 24 rfl rfl
theorem dX0_end_0 : decode cX0_end 0 = .ok (.iload_n 1, 1) := dk_27 (dk_at dksX0_end_0 0 rfl rfl)
theorem dX0_end_1 : decode cX0_end 1 = .ok (.ifCond .lt 11, 3) := dk_155 0 11 (dk_at dksX0_end_0 1 rfl rfl)
theorem dX0_end_4 : decode cX0_end 4 = .ok (.iload_n 1, 1) := dk_27 (dk_at dksX0_end_0 4 rfl rfl)
theorem dX0_end_5 : decode cX0_end 5 = .ok (.aload_n 0, 1) := dk_42 (dk_at dksX0_end_0 5 rfl rfl)
theorem dX0_end_6 : decode cX0_end 6 = .ok (.getfield 104, 3) := dk_180 0 104 (dk_at dksX0_end_0 6 rfl rfl)
theorem dX0_end_9 : decode cX0_end 9 = .ok (.if_icmp .le 17, 3) := dk_164 0 17 (dk_at dksX0_end_0 9 rfl rfl)
theorem dX0_end_12 : decode cX0_end 12 = .ok (.aload_n 0, 1) := dk_42 (dk_at dksX0_end_0 12 rfl rfl)
theorem dX0_end_13 : decode cX0_end 13 = .ok (.iconst 0, 1) := dk_3 (dk_at dksX0_end_0 13 rfl rfl)
theorem dX0_end_14 : decode cX0_end 14 = .ok (.invokevirtual 107, 3) := dk_182 0 107 (dk_at dksX0_end_0 14 rfl rfl)
theorem dX0_end_17 : decode cX0_end 17 = .ok (.ifCond .lt 7, 3) := dk_155 0 7 (dk_at dksX0_end_0 17 rfl rfl)
theorem dX0_end_20 : decode cX0_end 20 = .ok (.iconst 1, 1) := dk_4 (dk_at dksX0_end_0 20 rfl rfl)
theorem dX0_end_21 : decode cX0_end 21 = .ok (.goto 4, 3) := dk_167 0 4 (dk_at dksX0_end_0 21 rfl rfl)
theorem dX0_end_24 : decode cX0_end 24 = .ok (.iconst 0, 1) := dk_3 (dk_at dksX0_end_1 0 rfl rfl)
theorem dX0_end_25 : decode cX0_end 25 = .ok (.ireturn, 1) := dk_172 (dk_at dksX0_end_1 1 rfl rfl)
theorem dX0_end_26 : decode cX0_end 26 = .ok (.aload_n 0, 1) := dk_42 (dk_at dksX0_end_1 2 rfl rfl)
theorem dX0_end_27 : decode cX0_end 27 = .ok (.iload_n 1, 1) := dk_27 (dk_at dksX0_end_1 3 rfl rfl)
theorem dX0_end_28 : decode cX0_end 28 = .ok (.putfield 104, 3) := dk_181 0 104 (dk_at dksX0_end_1 4 rfl rfl)
theorem dX0_end_31 : decode cX0_end 31 = .ok (.iconst 1, 1) := dk_4 (dk_at dksX0_end_1 7 rfl rfl)
theorem dX0_end_32 : decode cX0_end 32 = .ok (.ireturn, 1) := dk_172 (dk_at dksX0_end_1 8 rfl rfl)
abbrev cX0_house : ByteArray := prog_1_method_13_code
def yX0_house : MethodName := ⟨RX0, "house", "()I"⟩
def dkwX0_house_3 : List UInt8 := [180, 0, 33, 180, 0, 143, 172]
abbrev dktX0_house_3 : List UInt8 := dkwX0_house_3 ++ []
def dkwX0_house_2 : List UInt8 := [4, 182, 0, 107, 172, 42, 180, 0, 71, 182, 0, 134, 42, 3, 181, 0, 137, 42, 3, 181, 0, 140, 42]
abbrev dktX0_house_2 : List UInt8 := dkwX0_house_2 ++ dktX0_house_3
def dkwX0_house_1 : List UInt8 := [181, 0, 33, 167, 0, 26, 76, 42, 43, 180, 0, 128, 181, 0, 115, 42, 43, 180, 0, 131, 181, 0, 41, 42]
abbrev dktX0_house_1 : List UInt8 := dkwX0_house_1 ++ dktX0_house_2
def dkwX0_house_0 : List UInt8 := [42, 3, 181, 0, 115, 42, 2, 181, 0, 41, 42, 42, 180, 0, 50, 42, 182, 0, 118, 182, 0, 122]
abbrev dktX0_house_0 : List UInt8 := dkwX0_house_0 ++ dktX0_house_1
theorem dksX0_house_0 : cX0_house.data.toList.drop 0 = dktX0_house_0 := by decide +kernel
theorem dksX0_house_1 : cX0_house.data.toList.drop 22 = dktX0_house_1 := dk_seg dksX0_house_0 22 rfl rfl
theorem dksX0_house_2 : cX0_house.data.toList.drop 46 = dktX0_house_2 := dk_seg dksX0_house_1 24 rfl rfl
theorem dksX0_house_3 : cX0_house.data.toList.drop 69 = dktX0_house_3 := dk_seg dksX0_house_2 23 rfl rfl
theorem dX0_house_0 : decode cX0_house 0 = .ok (.aload_n 0, 1) := dk_42 (dk_at dksX0_house_0 0 rfl rfl)
theorem dX0_house_1 : decode cX0_house 1 = .ok (.iconst 0, 1) := dk_3 (dk_at dksX0_house_0 1 rfl rfl)
theorem dX0_house_2 : decode cX0_house 2 = .ok (.putfield 115, 3) := dk_181 0 115 (dk_at dksX0_house_0 2 rfl rfl)
theorem dX0_house_5 : decode cX0_house 5 = .ok (.aload_n 0, 1) := dk_42 (dk_at dksX0_house_0 5 rfl rfl)
theorem dX0_house_6 : decode cX0_house 6 = .ok (.iconst (-1), 1) := dk_2 (dk_at dksX0_house_0 6 rfl rfl)
theorem dX0_house_7 : decode cX0_house 7 = .ok (.putfield 41, 3) := dk_181 0 41 (dk_at dksX0_house_0 7 rfl rfl)
theorem dX0_house_10 : decode cX0_house 10 = .ok (.aload_n 0, 1) := dk_42 (dk_at dksX0_house_0 10 rfl rfl)
theorem dX0_house_11 : decode cX0_house 11 = .ok (.aload_n 0, 1) := dk_42 (dk_at dksX0_house_0 11 rfl rfl)
theorem dX0_house_12 : decode cX0_house 12 = .ok (.getfield 50, 3) := dk_180 0 50 (dk_at dksX0_house_0 12 rfl rfl)
theorem dX0_house_15 : decode cX0_house 15 = .ok (.aload_n 0, 1) := dk_42 (dk_at dksX0_house_0 15 rfl rfl)
theorem dX0_house_16 : decode cX0_house 16 = .ok (.invokevirtual 118, 3) := dk_182 0 118 (dk_at dksX0_house_0 16 rfl rfl)
theorem dX0_house_19 : decode cX0_house 19 = .ok (.invokevirtual 122, 3) := dk_182 0 122 (dk_at dksX0_house_0 19 rfl rfl)
theorem dX0_house_22 : decode cX0_house 22 = .ok (.putfield 33, 3) := dk_181 0 33 (dk_at dksX0_house_1 0 rfl rfl)
theorem dX0_house_25 : decode cX0_house 25 = .ok (.goto 26, 3) := dk_167 0 26 (dk_at dksX0_house_1 3 rfl rfl)
theorem dX0_house_28 : decode cX0_house 28 = .ok (.astore_n 1, 1) := dk_76 (dk_at dksX0_house_1 6 rfl rfl)
theorem dX0_house_29 : decode cX0_house 29 = .ok (.aload_n 0, 1) := dk_42 (dk_at dksX0_house_1 7 rfl rfl)
theorem dX0_house_30 : decode cX0_house 30 = .ok (.aload_n 1, 1) := dk_43 (dk_at dksX0_house_1 8 rfl rfl)
theorem dX0_house_31 : decode cX0_house 31 = .ok (.getfield 128, 3) := dk_180 0 128 (dk_at dksX0_house_1 9 rfl rfl)
theorem dX0_house_34 : decode cX0_house 34 = .ok (.putfield 115, 3) := dk_181 0 115 (dk_at dksX0_house_1 12 rfl rfl)
theorem dX0_house_37 : decode cX0_house 37 = .ok (.aload_n 0, 1) := dk_42 (dk_at dksX0_house_1 15 rfl rfl)
theorem dX0_house_38 : decode cX0_house 38 = .ok (.aload_n 1, 1) := dk_43 (dk_at dksX0_house_1 16 rfl rfl)
theorem dX0_house_39 : decode cX0_house 39 = .ok (.getfield 131, 3) := dk_180 0 131 (dk_at dksX0_house_1 17 rfl rfl)
theorem dX0_house_42 : decode cX0_house 42 = .ok (.putfield 41, 3) := dk_181 0 41 (dk_at dksX0_house_1 20 rfl rfl)
theorem dX0_house_45 : decode cX0_house 45 = .ok (.aload_n 0, 1) := dk_42 (dk_at dksX0_house_1 23 rfl rfl)
theorem dX0_house_46 : decode cX0_house 46 = .ok (.iconst 1, 1) := dk_4 (dk_at dksX0_house_2 0 rfl rfl)
theorem dX0_house_47 : decode cX0_house 47 = .ok (.invokevirtual 107, 3) := dk_182 0 107 (dk_at dksX0_house_2 1 rfl rfl)
theorem dX0_house_50 : decode cX0_house 50 = .ok (.ireturn, 1) := dk_172 (dk_at dksX0_house_2 4 rfl rfl)
theorem dX0_house_51 : decode cX0_house 51 = .ok (.aload_n 0, 1) := dk_42 (dk_at dksX0_house_2 5 rfl rfl)
theorem dX0_house_52 : decode cX0_house 52 = .ok (.getfield 71, 3) := dk_180 0 71 (dk_at dksX0_house_2 6 rfl rfl)
theorem dX0_house_55 : decode cX0_house 55 = .ok (.invokevirtual 134, 3) := dk_182 0 134 (dk_at dksX0_house_2 9 rfl rfl)
theorem dX0_house_58 : decode cX0_house 58 = .ok (.aload_n 0, 1) := dk_42 (dk_at dksX0_house_2 12 rfl rfl)
theorem dX0_house_59 : decode cX0_house 59 = .ok (.iconst 0, 1) := dk_3 (dk_at dksX0_house_2 13 rfl rfl)
theorem dX0_house_60 : decode cX0_house 60 = .ok (.putfield 137, 3) := dk_181 0 137 (dk_at dksX0_house_2 14 rfl rfl)
theorem dX0_house_63 : decode cX0_house 63 = .ok (.aload_n 0, 1) := dk_42 (dk_at dksX0_house_2 17 rfl rfl)
theorem dX0_house_64 : decode cX0_house 64 = .ok (.iconst 0, 1) := dk_3 (dk_at dksX0_house_2 18 rfl rfl)
theorem dX0_house_65 : decode cX0_house 65 = .ok (.putfield 140, 3) := dk_181 0 140 (dk_at dksX0_house_2 19 rfl rfl)
theorem dX0_house_68 : decode cX0_house 68 = .ok (.aload_n 0, 1) := dk_42 (dk_at dksX0_house_2 22 rfl rfl)
theorem dX0_house_69 : decode cX0_house 69 = .ok (.getfield 33, 3) := dk_180 0 33 (dk_at dksX0_house_3 0 rfl rfl)
theorem dX0_house_72 : decode cX0_house 72 = .ok (.getfield 143, 3) := dk_180 0 143 (dk_at dksX0_house_3 3 rfl rfl)
theorem dX0_house_75 : decode cX0_house 75 = .ok (.ireturn, 1) := dk_172 (dk_at dksX0_house_3 6 rfl rfl)
abbrev cX0_taken : ByteArray := prog_1_method_12_code
def yX0_taken : MethodName := ⟨RX0, "taken", "()I"⟩
def dkwX0_taken_0 : List UInt8 := [42, 180, 0, 104, 60, 42, 3, 181, 0, 104, 27, 172]
abbrev dktX0_taken_0 : List UInt8 := dkwX0_taken_0 ++ []
theorem dksX0_taken_0 : cX0_taken.data.toList.drop 0 = dktX0_taken_0 := by decide +kernel
theorem dX0_taken_0 : decode cX0_taken 0 = .ok (.aload_n 0, 1) := dk_42 (dk_at dksX0_taken_0 0 rfl rfl)
theorem dX0_taken_1 : decode cX0_taken 1 = .ok (.getfield 104, 3) := dk_180 0 104 (dk_at dksX0_taken_0 1 rfl rfl)
theorem dX0_taken_4 : decode cX0_taken 4 = .ok (.istore_n 1, 1) := dk_60 (dk_at dksX0_taken_0 4 rfl rfl)
theorem dX0_taken_5 : decode cX0_taken 5 = .ok (.aload_n 0, 1) := dk_42 (dk_at dksX0_taken_0 5 rfl rfl)
theorem dX0_taken_6 : decode cX0_taken 6 = .ok (.iconst 0, 1) := dk_3 (dk_at dksX0_taken_0 6 rfl rfl)
theorem dX0_taken_7 : decode cX0_taken 7 = .ok (.putfield 104, 3) := dk_181 0 104 (dk_at dksX0_taken_0 7 rfl rfl)
theorem dX0_taken_10 : decode cX0_taken 10 = .ok (.iload_n 1, 1) := dk_27 (dk_at dksX0_taken_0 10 rfl rfl)
theorem dX0_taken_11 : decode cX0_taken 11 = .ok (.ireturn, 1) := dk_172 (dk_at dksX0_taken_0 11 rfl rfl)
abbrev cX0_isLetter : ByteArray := prog_1_method_4_code
def yX0_isLetter : MethodName := ⟨RX0, "isLetter", "(I)Z"⟩
def dkwX0_isLetter_0 : List UInt8 := [26, 16, 97, 161, 0, 13, 26, 16, 122, 163, 0, 7, 4, 167, 0, 4, 3, 172]
abbrev dktX0_isLetter_0 : List UInt8 := dkwX0_isLetter_0 ++ []
theorem dksX0_isLetter_0 : cX0_isLetter.data.toList.drop 0 = dktX0_isLetter_0 := by decide +kernel
theorem dX0_isLetter_0 : decode cX0_isLetter 0 = .ok (.iload_n 0, 1) := dk_26 (dk_at dksX0_isLetter_0 0 rfl rfl)
theorem dX0_isLetter_1 : decode cX0_isLetter 1 = .ok (.bipush 97, 2) := dk_16 97 (dk_at dksX0_isLetter_0 1 rfl rfl)
theorem dX0_isLetter_3 : decode cX0_isLetter 3 = .ok (.if_icmp .lt 13, 3) := dk_161 0 13 (dk_at dksX0_isLetter_0 3 rfl rfl)
theorem dX0_isLetter_6 : decode cX0_isLetter 6 = .ok (.iload_n 0, 1) := dk_26 (dk_at dksX0_isLetter_0 6 rfl rfl)
theorem dX0_isLetter_7 : decode cX0_isLetter 7 = .ok (.bipush 122, 2) := dk_16 122 (dk_at dksX0_isLetter_0 7 rfl rfl)
theorem dX0_isLetter_9 : decode cX0_isLetter 9 = .ok (.if_icmp .gt 7, 3) := dk_163 0 7 (dk_at dksX0_isLetter_0 9 rfl rfl)
theorem dX0_isLetter_12 : decode cX0_isLetter 12 = .ok (.iconst 1, 1) := dk_4 (dk_at dksX0_isLetter_0 12 rfl rfl)
theorem dX0_isLetter_13 : decode cX0_isLetter 13 = .ok (.goto 4, 3) := dk_167 0 4 (dk_at dksX0_isLetter_0 13 rfl rfl)
theorem dX0_isLetter_16 : decode cX0_isLetter 16 = .ok (.iconst 0, 1) := dk_3 (dk_at dksX0_isLetter_0 16 rfl rfl)
theorem dX0_isLetter_17 : decode cX0_isLetter 17 = .ok (.ireturn, 1) := dk_172 (dk_at dksX0_isLetter_0 17 rfl rfl)
abbrev cX0_isDigit : ByteArray := prog_1_method_5_code
def yX0_isDigit : MethodName := ⟨RX0, "isDigit", "(I)Z"⟩
def dkwX0_isDigit_0 : List UInt8 := [26, 16, 48, 161, 0, 13, 26, 16, 57, 163, 0, 7, 4, 167, 0, 4, 3, 172]
abbrev dktX0_isDigit_0 : List UInt8 := dkwX0_isDigit_0 ++ []
theorem dksX0_isDigit_0 : cX0_isDigit.data.toList.drop 0 = dktX0_isDigit_0 := by decide +kernel
theorem dX0_isDigit_0 : decode cX0_isDigit 0 = .ok (.iload_n 0, 1) := dk_26 (dk_at dksX0_isDigit_0 0 rfl rfl)
theorem dX0_isDigit_1 : decode cX0_isDigit 1 = .ok (.bipush 48, 2) := dk_16 48 (dk_at dksX0_isDigit_0 1 rfl rfl)
theorem dX0_isDigit_3 : decode cX0_isDigit 3 = .ok (.if_icmp .lt 13, 3) := dk_161 0 13 (dk_at dksX0_isDigit_0 3 rfl rfl)
theorem dX0_isDigit_6 : decode cX0_isDigit 6 = .ok (.iload_n 0, 1) := dk_26 (dk_at dksX0_isDigit_0 6 rfl rfl)
theorem dX0_isDigit_7 : decode cX0_isDigit 7 = .ok (.bipush 57, 2) := dk_16 57 (dk_at dksX0_isDigit_0 7 rfl rfl)
theorem dX0_isDigit_9 : decode cX0_isDigit 9 = .ok (.if_icmp .gt 7, 3) := dk_163 0 7 (dk_at dksX0_isDigit_0 9 rfl rfl)
theorem dX0_isDigit_12 : decode cX0_isDigit 12 = .ok (.iconst 1, 1) := dk_4 (dk_at dksX0_isDigit_0 12 rfl rfl)
theorem dX0_isDigit_13 : decode cX0_isDigit 13 = .ok (.goto 4, 3) := dk_167 0 4 (dk_at dksX0_isDigit_0 13 rfl rfl)
theorem dX0_isDigit_16 : decode cX0_isDigit 16 = .ok (.iconst 0, 1) := dk_3 (dk_at dksX0_isDigit_0 16 rfl rfl)
theorem dX0_isDigit_17 : decode cX0_isDigit 17 = .ok (.ireturn, 1) := dk_172 (dk_at dksX0_isDigit_0 17 rfl rfl)
abbrev cX0_find : ByteArray := prog_1_method_6_code
def yX0_find : MethodName := ⟨RX0, "find", "(Ljava/lang/String;[Ljava/lang/String;)I"⟩
def dkwX0_find_1 : List UInt8 := [167, 255, 235, 2, 172]
abbrev dktX0_find_1 : List UInt8 := dkwX0_find_1 ++ []
def dkwX0_find_0 : List UInt8 := [3, 61, 28, 43, 190, 162, 0, 21, 43, 28, 50, 42, 182, 0, 18, 153, 0, 5, 28, 172, 132, 2, 1]
abbrev dktX0_find_0 : List UInt8 := dkwX0_find_0 ++ dktX0_find_1
theorem dksX0_find_0 : cX0_find.data.toList.drop 0 = dktX0_find_0 := by decide +kernel
theorem dksX0_find_1 : cX0_find.data.toList.drop 23 = dktX0_find_1 := dk_seg dksX0_find_0 23 rfl rfl
theorem dX0_find_0 : decode cX0_find 0 = .ok (.iconst 0, 1) := dk_3 (dk_at dksX0_find_0 0 rfl rfl)
theorem dX0_find_1 : decode cX0_find 1 = .ok (.istore_n 2, 1) := dk_61 (dk_at dksX0_find_0 1 rfl rfl)
theorem dX0_find_2 : decode cX0_find 2 = .ok (.iload_n 2, 1) := dk_28 (dk_at dksX0_find_0 2 rfl rfl)
theorem dX0_find_3 : decode cX0_find 3 = .ok (.aload_n 1, 1) := dk_43 (dk_at dksX0_find_0 3 rfl rfl)
theorem dX0_find_4 : decode cX0_find 4 = .ok (.arraylength, 1) := dk_190 (dk_at dksX0_find_0 4 rfl rfl)
theorem dX0_find_5 : decode cX0_find 5 = .ok (.if_icmp .ge 21, 3) := dk_162 0 21 (dk_at dksX0_find_0 5 rfl rfl)
theorem dX0_find_8 : decode cX0_find 8 = .ok (.aload_n 1, 1) := dk_43 (dk_at dksX0_find_0 8 rfl rfl)
theorem dX0_find_9 : decode cX0_find 9 = .ok (.iload_n 2, 1) := dk_28 (dk_at dksX0_find_0 9 rfl rfl)
theorem dX0_find_10 : decode cX0_find 10 = .ok (.aaload, 1) := dk_50 (dk_at dksX0_find_0 10 rfl rfl)
theorem dX0_find_11 : decode cX0_find 11 = .ok (.aload_n 0, 1) := dk_42 (dk_at dksX0_find_0 11 rfl rfl)
theorem dX0_find_12 : decode cX0_find 12 = .ok (.invokevirtual 18, 3) := dk_182 0 18 (dk_at dksX0_find_0 12 rfl rfl)
theorem dX0_find_15 : decode cX0_find 15 = .ok (.ifCond .eq 5, 3) := dk_153 0 5 (dk_at dksX0_find_0 15 rfl rfl)
theorem dX0_find_18 : decode cX0_find 18 = .ok (.iload_n 2, 1) := dk_28 (dk_at dksX0_find_0 18 rfl rfl)
theorem dX0_find_19 : decode cX0_find 19 = .ok (.ireturn, 1) := dk_172 (dk_at dksX0_find_0 19 rfl rfl)
theorem dX0_find_20 : decode cX0_find 20 = .ok (.iinc 2 1, 3) := dk_132 2 1 (dk_at dksX0_find_0 20 rfl rfl)
theorem dX0_find_23 : decode cX0_find 23 = .ok (.goto (-21), 3) := dk_167 255 235 (dk_at dksX0_find_1 0 rfl rfl)
theorem dX0_find_26 : decode cX0_find 26 = .ok (.iconst (-1), 1) := dk_2 (dk_at dksX0_find_1 3 rfl rfl)
theorem dX0_find_27 : decode cX0_find 27 = .ok (.ireturn, 1) := dk_172 (dk_at dksX0_find_1 4 rfl rfl)
abbrev cX0_is : ByteArray := prog_1_method_1_code
def yX0_is : MethodName := ⟨RX0, "is", "(III)Z"⟩
def dkwX0_is_0 : List UInt8 := [26, 27, 161, 0, 12, 26, 28, 163, 0, 7, 4, 167, 0, 4, 3, 172]
abbrev dktX0_is_0 : List UInt8 := dkwX0_is_0 ++ []
theorem dksX0_is_0 : cX0_is.data.toList.drop 0 = dktX0_is_0 := by decide +kernel
theorem dX0_is_0 : decode cX0_is 0 = .ok (.iload_n 0, 1) := dk_26 (dk_at dksX0_is_0 0 rfl rfl)
theorem dX0_is_1 : decode cX0_is 1 = .ok (.iload_n 1, 1) := dk_27 (dk_at dksX0_is_0 1 rfl rfl)
theorem dX0_is_2 : decode cX0_is 2 = .ok (.if_icmp .lt 12, 3) := dk_161 0 12 (dk_at dksX0_is_0 2 rfl rfl)
theorem dX0_is_5 : decode cX0_is 5 = .ok (.iload_n 0, 1) := dk_26 (dk_at dksX0_is_0 5 rfl rfl)
theorem dX0_is_6 : decode cX0_is 6 = .ok (.iload_n 2, 1) := dk_28 (dk_at dksX0_is_0 6 rfl rfl)
theorem dX0_is_7 : decode cX0_is 7 = .ok (.if_icmp .gt 7, 3) := dk_163 0 7 (dk_at dksX0_is_0 7 rfl rfl)
theorem dX0_is_10 : decode cX0_is 10 = .ok (.iconst 1, 1) := dk_4 (dk_at dksX0_is_0 10 rfl rfl)
theorem dX0_is_11 : decode cX0_is 11 = .ok (.goto 4, 3) := dk_167 0 4 (dk_at dksX0_is_0 11 rfl rfl)
theorem dX0_is_14 : decode cX0_is 14 = .ok (.iconst 0, 1) := dk_3 (dk_at dksX0_is_0 14 rfl rfl)
theorem dX0_is_15 : decode cX0_is 15 = .ok (.ireturn, 1) := dk_172 (dk_at dksX0_is_0 15 rfl rfl)
abbrev cX0_has : ByteArray := prog_1_method_2_code
def yX0_has : MethodName := ⟨RX0, "has", "(II)Z"⟩
def dkwX0_has_0 : List UInt8 := [26, 27, 122, 4, 126, 4, 160, 0, 7, 4, 167, 0, 4, 3, 172]
abbrev dktX0_has_0 : List UInt8 := dkwX0_has_0 ++ []
theorem dksX0_has_0 : cX0_has.data.toList.drop 0 = dktX0_has_0 := by decide +kernel
theorem dX0_has_0 : decode cX0_has 0 = .ok (.iload_n 0, 1) := dk_26 (dk_at dksX0_has_0 0 rfl rfl)
theorem dX0_has_1 : decode cX0_has 1 = .ok (.iload_n 1, 1) := dk_27 (dk_at dksX0_has_0 1 rfl rfl)
theorem dX0_has_2 : decode cX0_has 2 = .ok (.ishr, 1) := dk_122 (dk_at dksX0_has_0 2 rfl rfl)
theorem dX0_has_3 : decode cX0_has 3 = .ok (.iconst 1, 1) := dk_4 (dk_at dksX0_has_0 3 rfl rfl)
theorem dX0_has_4 : decode cX0_has 4 = .ok (.iand, 1) := dk_126 (dk_at dksX0_has_0 4 rfl rfl)
theorem dX0_has_5 : decode cX0_has 5 = .ok (.iconst 1, 1) := dk_4 (dk_at dksX0_has_0 5 rfl rfl)
theorem dX0_has_6 : decode cX0_has 6 = .ok (.if_icmp .ne 7, 3) := dk_160 0 7 (dk_at dksX0_has_0 6 rfl rfl)
theorem dX0_has_9 : decode cX0_has 9 = .ok (.iconst 1, 1) := dk_4 (dk_at dksX0_has_0 9 rfl rfl)
theorem dX0_has_10 : decode cX0_has 10 = .ok (.goto 4, 3) := dk_167 0 4 (dk_at dksX0_has_0 10 rfl rfl)
theorem dX0_has_13 : decode cX0_has 13 = .ok (.iconst 0, 1) := dk_3 (dk_at dksX0_has_0 13 rfl rfl)
theorem dX0_has_14 : decode cX0_has 14 = .ok (.ireturn, 1) := dk_172 (dk_at dksX0_has_0 14 rfl rfl)
abbrev cX0_fault : ByteArray := prog_1_method_14_code
def yX0_fault : MethodName := ⟨RX0, "fault", "(I)I"⟩
def dkwX0_fault_1 : List UInt8 := [172]
abbrev dktX0_fault_1 : List UInt8 := dkwX0_fault_1 ++ []
def dkwX0_fault_0 : List UInt8 := [27, 154, 0, 10, 42, 180, 0, 115, 167, 0, 16, 27, 4, 160, 0, 10, 42, 180, 0, 41, 167, 0, 4, 2]
abbrev dktX0_fault_0 : List UInt8 := dkwX0_fault_0 ++ dktX0_fault_1
theorem dksX0_fault_0 : cX0_fault.data.toList.drop 0 = dktX0_fault_0 := by decide +kernel
theorem dksX0_fault_1 : cX0_fault.data.toList.drop 24 = dktX0_fault_1 := dk_seg dksX0_fault_0 24 rfl rfl
theorem dX0_fault_0 : decode cX0_fault 0 = .ok (.iload_n 1, 1) := dk_27 (dk_at dksX0_fault_0 0 rfl rfl)
theorem dX0_fault_1 : decode cX0_fault 1 = .ok (.ifCond .ne 10, 3) := dk_154 0 10 (dk_at dksX0_fault_0 1 rfl rfl)
theorem dX0_fault_4 : decode cX0_fault 4 = .ok (.aload_n 0, 1) := dk_42 (dk_at dksX0_fault_0 4 rfl rfl)
theorem dX0_fault_5 : decode cX0_fault 5 = .ok (.getfield 115, 3) := dk_180 0 115 (dk_at dksX0_fault_0 5 rfl rfl)
theorem dX0_fault_8 : decode cX0_fault 8 = .ok (.goto 16, 3) := dk_167 0 16 (dk_at dksX0_fault_0 8 rfl rfl)
theorem dX0_fault_11 : decode cX0_fault 11 = .ok (.iload_n 1, 1) := dk_27 (dk_at dksX0_fault_0 11 rfl rfl)
theorem dX0_fault_12 : decode cX0_fault 12 = .ok (.iconst 1, 1) := dk_4 (dk_at dksX0_fault_0 12 rfl rfl)
theorem dX0_fault_13 : decode cX0_fault 13 = .ok (.if_icmp .ne 10, 3) := dk_160 0 10 (dk_at dksX0_fault_0 13 rfl rfl)
theorem dX0_fault_16 : decode cX0_fault 16 = .ok (.aload_n 0, 1) := dk_42 (dk_at dksX0_fault_0 16 rfl rfl)
theorem dX0_fault_17 : decode cX0_fault 17 = .ok (.getfield 41, 3) := dk_180 0 41 (dk_at dksX0_fault_0 17 rfl rfl)
theorem dX0_fault_20 : decode cX0_fault 20 = .ok (.goto 4, 3) := dk_167 0 4 (dk_at dksX0_fault_0 20 rfl rfl)
theorem dX0_fault_23 : decode cX0_fault 23 = .ok (.iconst (-1), 1) := dk_2 (dk_at dksX0_fault_0 23 rfl rfl)
theorem dX0_fault_24 : decode cX0_fault 24 = .ok (.ireturn, 1) := dk_172 (dk_at dksX0_fault_1 0 rfl rfl)
abbrev cX0_has_2 : ByteArray := prog_1_method_25_code
def yX0_has_2 : MethodName := ⟨RX0, "has", "(I)I"⟩
def dkwX0_has_2_5 : List UInt8 := [180, 0, 140, 172, 42, 180, 0, 137, 172, 2, 172]
abbrev dktX0_has_2_5 : List UInt8 := dkwX0_has_2_5 ++ []
def dkwX0_has_2_4 : List UInt8 := [180, 0, 71, 180, 0, 204, 184, 0, 207, 172, 42, 182, 0, 212, 172, 42, 180, 0, 71, 180, 0, 215, 172, 42]
abbrev dktX0_has_2_4 : List UInt8 := dkwX0_has_2_4 ++ dktX0_has_2_5
def dkwX0_has_2_3 : List UInt8 := [180, 0, 71, 180, 0, 201, 16, 24, 108, 172, 42, 180, 0, 71, 180, 0, 201, 16, 24, 112, 172, 42]
abbrev dktX0_has_2_3 : List UInt8 := dkwX0_has_2_3 ++ dktX0_has_2_4
def dkwX0_has_2_2 : List UInt8 := [42, 182, 0, 161, 172, 42, 182, 0, 163, 172, 42, 182, 0, 165, 172, 42, 180, 0, 33, 180, 0, 198, 172, 42]
abbrev dktX0_has_2_2 : List UInt8 := dkwX0_has_2_2 ++ dktX0_has_2_3
def dkwX0_has_2_1 : List UInt8 := [170, 0, 0, 0, 0, 0, 138, 0, 0, 0, 0, 0, 0, 0, 10, 0, 0, 0, 59, 0, 0, 0, 64, 0, 0, 0, 69, 0, 0, 0, 74, 0, 0, 0, 82, 0, 0, 0, 93, 0, 0, 0, 104, 0, 0, 0, 115, 0, 0, 0, 120, 0, 0, 0, 128, 0, 0, 0, 133]
abbrev dktX0_has_2_1 : List UInt8 := dkwX0_has_2_1 ++ dktX0_has_2_2
def dkwX0_has_2_0 : List UInt8 := [27]
abbrev dktX0_has_2_0 : List UInt8 := dkwX0_has_2_0 ++ dktX0_has_2_1
theorem dksX0_has_2_0 : cX0_has_2.data.toList.drop 0 = dktX0_has_2_0 := by decide +kernel
theorem dksX0_has_2_1 : cX0_has_2.data.toList.drop 1 = dktX0_has_2_1 := dk_seg dksX0_has_2_0 1 rfl rfl
theorem dksX0_has_2_2 : cX0_has_2.data.toList.drop 60 = dktX0_has_2_2 := dk_seg dksX0_has_2_1 59 rfl rfl
theorem dksX0_has_2_3 : cX0_has_2.data.toList.drop 84 = dktX0_has_2_3 := dk_seg dksX0_has_2_2 24 rfl rfl
theorem dksX0_has_2_4 : cX0_has_2.data.toList.drop 106 = dktX0_has_2_4 := dk_seg dksX0_has_2_3 22 rfl rfl
theorem dksX0_has_2_5 : cX0_has_2.data.toList.drop 130 = dktX0_has_2_5 := dk_seg dksX0_has_2_4 24 rfl rfl
theorem dX0_has_2_0 : decode cX0_has_2 0 = .ok (.iload_n 1, 1) := dk_27 (dk_at dksX0_has_2_0 0 rfl rfl)
theorem dX0_has_2_1 : decode cX0_has_2 1 = .ok (.tableswitch 138 0 10 #[59, 64, 69, 74, 82, 93, 104, 115, 120, 128, 133], 59) := by decide +kernel
theorem dX0_has_2_60 : decode cX0_has_2 60 = .ok (.aload_n 0, 1) := dk_42 (dk_at dksX0_has_2_2 0 rfl rfl)
theorem dX0_has_2_61 : decode cX0_has_2 61 = .ok (.invokevirtual 161, 3) := dk_182 0 161 (dk_at dksX0_has_2_2 1 rfl rfl)
theorem dX0_has_2_64 : decode cX0_has_2 64 = .ok (.ireturn, 1) := dk_172 (dk_at dksX0_has_2_2 4 rfl rfl)
theorem dX0_has_2_65 : decode cX0_has_2 65 = .ok (.aload_n 0, 1) := dk_42 (dk_at dksX0_has_2_2 5 rfl rfl)
theorem dX0_has_2_66 : decode cX0_has_2 66 = .ok (.invokevirtual 163, 3) := dk_182 0 163 (dk_at dksX0_has_2_2 6 rfl rfl)
theorem dX0_has_2_69 : decode cX0_has_2 69 = .ok (.ireturn, 1) := dk_172 (dk_at dksX0_has_2_2 9 rfl rfl)
theorem dX0_has_2_70 : decode cX0_has_2 70 = .ok (.aload_n 0, 1) := dk_42 (dk_at dksX0_has_2_2 10 rfl rfl)
theorem dX0_has_2_71 : decode cX0_has_2 71 = .ok (.invokevirtual 165, 3) := dk_182 0 165 (dk_at dksX0_has_2_2 11 rfl rfl)
theorem dX0_has_2_74 : decode cX0_has_2 74 = .ok (.ireturn, 1) := dk_172 (dk_at dksX0_has_2_2 14 rfl rfl)
theorem dX0_has_2_75 : decode cX0_has_2 75 = .ok (.aload_n 0, 1) := dk_42 (dk_at dksX0_has_2_2 15 rfl rfl)
theorem dX0_has_2_76 : decode cX0_has_2 76 = .ok (.getfield 33, 3) := dk_180 0 33 (dk_at dksX0_has_2_2 16 rfl rfl)
theorem dX0_has_2_79 : decode cX0_has_2 79 = .ok (.getfield 198, 3) := dk_180 0 198 (dk_at dksX0_has_2_2 19 rfl rfl)
theorem dX0_has_2_82 : decode cX0_has_2 82 = .ok (.ireturn, 1) := dk_172 (dk_at dksX0_has_2_2 22 rfl rfl)
theorem dX0_has_2_83 : decode cX0_has_2 83 = .ok (.aload_n 0, 1) := dk_42 (dk_at dksX0_has_2_2 23 rfl rfl)
theorem dX0_has_2_84 : decode cX0_has_2 84 = .ok (.getfield 71, 3) := dk_180 0 71 (dk_at dksX0_has_2_3 0 rfl rfl)
theorem dX0_has_2_87 : decode cX0_has_2 87 = .ok (.getfield 201, 3) := dk_180 0 201 (dk_at dksX0_has_2_3 3 rfl rfl)
theorem dX0_has_2_90 : decode cX0_has_2 90 = .ok (.bipush 24, 2) := dk_16 24 (dk_at dksX0_has_2_3 6 rfl rfl)
theorem dX0_has_2_92 : decode cX0_has_2 92 = .ok (.idiv, 1) := dk_108 (dk_at dksX0_has_2_3 8 rfl rfl)
theorem dX0_has_2_93 : decode cX0_has_2 93 = .ok (.ireturn, 1) := dk_172 (dk_at dksX0_has_2_3 9 rfl rfl)
theorem dX0_has_2_94 : decode cX0_has_2 94 = .ok (.aload_n 0, 1) := dk_42 (dk_at dksX0_has_2_3 10 rfl rfl)
theorem dX0_has_2_95 : decode cX0_has_2 95 = .ok (.getfield 71, 3) := dk_180 0 71 (dk_at dksX0_has_2_3 11 rfl rfl)
theorem dX0_has_2_98 : decode cX0_has_2 98 = .ok (.getfield 201, 3) := dk_180 0 201 (dk_at dksX0_has_2_3 14 rfl rfl)
theorem dX0_has_2_101 : decode cX0_has_2 101 = .ok (.bipush 24, 2) := dk_16 24 (dk_at dksX0_has_2_3 17 rfl rfl)
theorem dX0_has_2_103 : decode cX0_has_2 103 = .ok (.irem, 1) := dk_112 (dk_at dksX0_has_2_3 19 rfl rfl)
theorem dX0_has_2_104 : decode cX0_has_2 104 = .ok (.ireturn, 1) := dk_172 (dk_at dksX0_has_2_3 20 rfl rfl)
theorem dX0_has_2_105 : decode cX0_has_2 105 = .ok (.aload_n 0, 1) := dk_42 (dk_at dksX0_has_2_3 21 rfl rfl)
theorem dX0_has_2_106 : decode cX0_has_2 106 = .ok (.getfield 71, 3) := dk_180 0 71 (dk_at dksX0_has_2_4 0 rfl rfl)
theorem dX0_has_2_109 : decode cX0_has_2 109 = .ok (.getfield 204, 3) := dk_180 0 204 (dk_at dksX0_has_2_4 3 rfl rfl)
theorem dX0_has_2_112 : decode cX0_has_2 112 = .ok (.invokestatic 207, 3) := dk_184 0 207 (dk_at dksX0_has_2_4 6 rfl rfl)
theorem dX0_has_2_115 : decode cX0_has_2 115 = .ok (.ireturn, 1) := dk_172 (dk_at dksX0_has_2_4 9 rfl rfl)
theorem dX0_has_2_116 : decode cX0_has_2 116 = .ok (.aload_n 0, 1) := dk_42 (dk_at dksX0_has_2_4 10 rfl rfl)
theorem dX0_has_2_117 : decode cX0_has_2 117 = .ok (.invokevirtual 212, 3) := dk_182 0 212 (dk_at dksX0_has_2_4 11 rfl rfl)
theorem dX0_has_2_120 : decode cX0_has_2 120 = .ok (.ireturn, 1) := dk_172 (dk_at dksX0_has_2_4 14 rfl rfl)
theorem dX0_has_2_121 : decode cX0_has_2 121 = .ok (.aload_n 0, 1) := dk_42 (dk_at dksX0_has_2_4 15 rfl rfl)
theorem dX0_has_2_122 : decode cX0_has_2 122 = .ok (.getfield 71, 3) := dk_180 0 71 (dk_at dksX0_has_2_4 16 rfl rfl)
theorem dX0_has_2_125 : decode cX0_has_2 125 = .ok (.getfield 215, 3) := dk_180 0 215 (dk_at dksX0_has_2_4 19 rfl rfl)
theorem dX0_has_2_128 : decode cX0_has_2 128 = .ok (.ireturn, 1) := dk_172 (dk_at dksX0_has_2_4 22 rfl rfl)
theorem dX0_has_2_129 : decode cX0_has_2 129 = .ok (.aload_n 0, 1) := dk_42 (dk_at dksX0_has_2_4 23 rfl rfl)
theorem dX0_has_2_130 : decode cX0_has_2 130 = .ok (.getfield 140, 3) := dk_180 0 140 (dk_at dksX0_has_2_5 0 rfl rfl)
theorem dX0_has_2_133 : decode cX0_has_2 133 = .ok (.ireturn, 1) := dk_172 (dk_at dksX0_has_2_5 3 rfl rfl)
theorem dX0_has_2_134 : decode cX0_has_2 134 = .ok (.aload_n 0, 1) := dk_42 (dk_at dksX0_has_2_5 4 rfl rfl)
theorem dX0_has_2_135 : decode cX0_has_2 135 = .ok (.getfield 137, 3) := dk_180 0 137 (dk_at dksX0_has_2_5 5 rfl rfl)
theorem dX0_has_2_138 : decode cX0_has_2 138 = .ok (.ireturn, 1) := dk_172 (dk_at dksX0_has_2_5 8 rfl rfl)
theorem dX0_has_2_139 : decode cX0_has_2 139 = .ok (.iconst (-1), 1) := dk_2 (dk_at dksX0_has_2_5 9 rfl rfl)
theorem dX0_has_2_140 : decode cX0_has_2 140 = .ok (.ireturn, 1) := dk_172 (dk_at dksX0_has_2_5 10 rfl rfl)
abbrev cX0_kinds : ByteArray := prog_1_method_15_code
def yX0_kinds : MethodName := ⟨RX0, "kinds", "()I"⟩
def dkwX0_kinds_0 : List UInt8 := [42, 180, 0, 33, 180, 0, 146, 185, 0, 150, 1, 0, 172]
abbrev dktX0_kinds_0 : List UInt8 := dkwX0_kinds_0 ++ []
theorem dksX0_kinds_0 : cX0_kinds.data.toList.drop 0 = dktX0_kinds_0 := by decide +kernel
theorem dX0_kinds_0 : decode cX0_kinds 0 = .ok (.aload_n 0, 1) := dk_42 (dk_at dksX0_kinds_0 0 rfl rfl)
theorem dX0_kinds_1 : decode cX0_kinds 1 = .ok (.getfield 33, 3) := dk_180 0 33 (dk_at dksX0_kinds_0 1 rfl rfl)
theorem dX0_kinds_4 : decode cX0_kinds 4 = .ok (.getfield 146, 3) := dk_180 0 146 (dk_at dksX0_kinds_0 4 rfl rfl)
theorem dX0_kinds_7 : decode cX0_kinds 7 = .ok (.invokeinterface 150 1, 5) := by decide +kernel
theorem dX0_kinds_12 : decode cX0_kinds 12 = .ok (.ireturn, 1) := dk_172 (dk_at dksX0_kinds_0 12 rfl rfl)
abbrev cX0_films : ByteArray := prog_1_method_16_code
def yX0_films : MethodName := ⟨RX0, "films", "()I"⟩
def dkwX0_films_0 : List UInt8 := [42, 180, 0, 33, 180, 0, 155, 185, 0, 150, 1, 0, 172]
abbrev dktX0_films_0 : List UInt8 := dkwX0_films_0 ++ []
theorem dksX0_films_0 : cX0_films.data.toList.drop 0 = dktX0_films_0 := by decide +kernel
theorem dX0_films_0 : decode cX0_films 0 = .ok (.aload_n 0, 1) := dk_42 (dk_at dksX0_films_0 0 rfl rfl)
theorem dX0_films_1 : decode cX0_films 1 = .ok (.getfield 33, 3) := dk_180 0 33 (dk_at dksX0_films_0 1 rfl rfl)
theorem dX0_films_4 : decode cX0_films 4 = .ok (.getfield 155, 3) := dk_180 0 155 (dk_at dksX0_films_0 4 rfl rfl)
theorem dX0_films_7 : decode cX0_films 7 = .ok (.invokeinterface 150 1, 5) := by decide +kernel
theorem dX0_films_12 : decode cX0_films 12 = .ok (.ireturn, 1) := dk_172 (dk_at dksX0_films_0 12 rfl rfl)
abbrev cX0_people : ByteArray := prog_1_method_17_code
def yX0_people : MethodName := ⟨RX0, "people", "()I"⟩
def dkwX0_people_0 : List UInt8 := [42, 180, 0, 33, 180, 0, 158, 185, 0, 150, 1, 0, 172]
abbrev dktX0_people_0 : List UInt8 := dkwX0_people_0 ++ []
theorem dksX0_people_0 : cX0_people.data.toList.drop 0 = dktX0_people_0 := by decide +kernel
theorem dX0_people_0 : decode cX0_people 0 = .ok (.aload_n 0, 1) := dk_42 (dk_at dksX0_people_0 0 rfl rfl)
theorem dX0_people_1 : decode cX0_people 1 = .ok (.getfield 33, 3) := dk_180 0 33 (dk_at dksX0_people_0 1 rfl rfl)
theorem dX0_people_4 : decode cX0_people 4 = .ok (.getfield 158, 3) := dk_180 0 158 (dk_at dksX0_people_0 4 rfl rfl)
theorem dX0_people_7 : decode cX0_people 7 = .ok (.invokeinterface 150 1, 5) := by decide +kernel
theorem dX0_people_12 : decode cX0_people 12 = .ok (.ireturn, 1) := dk_172 (dk_at dksX0_people_0 12 rfl rfl)
abbrev cX0_allSaw : ByteArray := prog_1_method_26_code
def yX0_allSaw : MethodName := ⟨RX0, "allSaw", "()I"⟩
def dkwX0_allSaw_1 : List UInt8 := [132, 2, 1, 167, 255, 233, 27, 172]
abbrev dktX0_allSaw_1 : List UInt8 := dkwX0_allSaw_1 ++ []
def dkwX0_allSaw_0 : List UInt8 := [3, 60, 3, 61, 28, 42, 182, 0, 165, 162, 0, 21, 27, 42, 180, 0, 71, 180, 0, 218, 28, 46, 96, 60]
abbrev dktX0_allSaw_0 : List UInt8 := dkwX0_allSaw_0 ++ dktX0_allSaw_1
theorem dksX0_allSaw_0 : cX0_allSaw.data.toList.drop 0 = dktX0_allSaw_0 := by decide +kernel
theorem dksX0_allSaw_1 : cX0_allSaw.data.toList.drop 24 = dktX0_allSaw_1 := dk_seg dksX0_allSaw_0 24 rfl rfl
theorem dX0_allSaw_0 : decode cX0_allSaw 0 = .ok (.iconst 0, 1) := dk_3 (dk_at dksX0_allSaw_0 0 rfl rfl)
theorem dX0_allSaw_1 : decode cX0_allSaw 1 = .ok (.istore_n 1, 1) := dk_60 (dk_at dksX0_allSaw_0 1 rfl rfl)
theorem dX0_allSaw_2 : decode cX0_allSaw 2 = .ok (.iconst 0, 1) := dk_3 (dk_at dksX0_allSaw_0 2 rfl rfl)
theorem dX0_allSaw_3 : decode cX0_allSaw 3 = .ok (.istore_n 2, 1) := dk_61 (dk_at dksX0_allSaw_0 3 rfl rfl)
theorem dX0_allSaw_4 : decode cX0_allSaw 4 = .ok (.iload_n 2, 1) := dk_28 (dk_at dksX0_allSaw_0 4 rfl rfl)
theorem dX0_allSaw_5 : decode cX0_allSaw 5 = .ok (.aload_n 0, 1) := dk_42 (dk_at dksX0_allSaw_0 5 rfl rfl)
theorem dX0_allSaw_6 : decode cX0_allSaw 6 = .ok (.invokevirtual 165, 3) := dk_182 0 165 (dk_at dksX0_allSaw_0 6 rfl rfl)
theorem dX0_allSaw_9 : decode cX0_allSaw 9 = .ok (.if_icmp .ge 21, 3) := dk_162 0 21 (dk_at dksX0_allSaw_0 9 rfl rfl)
theorem dX0_allSaw_12 : decode cX0_allSaw 12 = .ok (.iload_n 1, 1) := dk_27 (dk_at dksX0_allSaw_0 12 rfl rfl)
theorem dX0_allSaw_13 : decode cX0_allSaw 13 = .ok (.aload_n 0, 1) := dk_42 (dk_at dksX0_allSaw_0 13 rfl rfl)
theorem dX0_allSaw_14 : decode cX0_allSaw 14 = .ok (.getfield 71, 3) := dk_180 0 71 (dk_at dksX0_allSaw_0 14 rfl rfl)
theorem dX0_allSaw_17 : decode cX0_allSaw 17 = .ok (.getfield 218, 3) := dk_180 0 218 (dk_at dksX0_allSaw_0 17 rfl rfl)
theorem dX0_allSaw_20 : decode cX0_allSaw 20 = .ok (.iload_n 2, 1) := dk_28 (dk_at dksX0_allSaw_0 20 rfl rfl)
theorem dX0_allSaw_21 : decode cX0_allSaw 21 = .ok (.iaload, 1) := dk_46 (dk_at dksX0_allSaw_0 21 rfl rfl)
theorem dX0_allSaw_22 : decode cX0_allSaw 22 = .ok (.iadd, 1) := dk_96 (dk_at dksX0_allSaw_0 22 rfl rfl)
theorem dX0_allSaw_23 : decode cX0_allSaw 23 = .ok (.istore_n 1, 1) := dk_60 (dk_at dksX0_allSaw_0 23 rfl rfl)
theorem dX0_allSaw_24 : decode cX0_allSaw 24 = .ok (.iinc 2 1, 3) := dk_132 2 1 (dk_at dksX0_allSaw_1 0 rfl rfl)
theorem dX0_allSaw_27 : decode cX0_allSaw 27 = .ok (.goto (-23), 3) := dk_167 255 233 (dk_at dksX0_allSaw_1 3 rfl rfl)
theorem dX0_allSaw_30 : decode cX0_allSaw 30 = .ok (.iload_n 1, 1) := dk_27 (dk_at dksX0_allSaw_1 6 rfl rfl)
theorem dX0_allSaw_31 : decode cX0_allSaw 31 = .ok (.ireturn, 1) := dk_172 (dk_at dksX0_allSaw_1 7 rfl rfl)
abbrev cX0_letter : ByteArray := prog_1_method_27_code
def yX0_letter : MethodName := ⟨RX0, "letter", "(III)I"⟩
def dkwX0_letter_3 : List UInt8 := [162, 0, 21, 25, 4, 28, 185, 0, 167, 2, 0, 192, 0, 221, 29, 182, 0, 223, 167, 0, 4, 2, 172]
abbrev dktX0_letter_3 : List UInt8 := dkwX0_letter_3 ++ []
def dkwX0_letter_2 : List UInt8 := [180, 0, 155, 167, 0, 10, 42, 180, 0, 33, 180, 0, 158, 58, 4, 28, 25, 4, 185, 0, 150, 1, 0]
abbrev dktX0_letter_2 : List UInt8 := dkwX0_letter_2 ++ dktX0_letter_3
def dkwX0_letter_1 : List UInt8 := [27, 154, 0, 13, 42, 180, 0, 33, 180, 0, 146, 167, 0, 25, 27, 4, 160, 0, 13, 42, 180, 0, 33]
abbrev dktX0_letter_1 : List UInt8 := dkwX0_letter_1 ++ dktX0_letter_2
def dkwX0_letter_0 : List UInt8 := [29, 3, 8, 184, 0, 185, 153, 0, 16, 27, 3, 5, 184, 0, 185, 153, 0, 7, 28, 156, 0, 5, 2, 172]
abbrev dktX0_letter_0 : List UInt8 := dkwX0_letter_0 ++ dktX0_letter_1
theorem dksX0_letter_0 : cX0_letter.data.toList.drop 0 = dktX0_letter_0 := by decide +kernel
theorem dksX0_letter_1 : cX0_letter.data.toList.drop 24 = dktX0_letter_1 := dk_seg dksX0_letter_0 24 rfl rfl
theorem dksX0_letter_2 : cX0_letter.data.toList.drop 47 = dktX0_letter_2 := dk_seg dksX0_letter_1 23 rfl rfl
theorem dksX0_letter_3 : cX0_letter.data.toList.drop 70 = dktX0_letter_3 := dk_seg dksX0_letter_2 23 rfl rfl
theorem dX0_letter_0 : decode cX0_letter 0 = .ok (.iload_n 3, 1) := dk_29 (dk_at dksX0_letter_0 0 rfl rfl)
theorem dX0_letter_1 : decode cX0_letter 1 = .ok (.iconst 0, 1) := dk_3 (dk_at dksX0_letter_0 1 rfl rfl)
theorem dX0_letter_2 : decode cX0_letter 2 = .ok (.iconst 5, 1) := dk_8 (dk_at dksX0_letter_0 2 rfl rfl)
theorem dX0_letter_3 : decode cX0_letter 3 = .ok (.invokestatic 185, 3) := dk_184 0 185 (dk_at dksX0_letter_0 3 rfl rfl)
theorem dX0_letter_6 : decode cX0_letter 6 = .ok (.ifCond .eq 16, 3) := dk_153 0 16 (dk_at dksX0_letter_0 6 rfl rfl)
theorem dX0_letter_9 : decode cX0_letter 9 = .ok (.iload_n 1, 1) := dk_27 (dk_at dksX0_letter_0 9 rfl rfl)
theorem dX0_letter_10 : decode cX0_letter 10 = .ok (.iconst 0, 1) := dk_3 (dk_at dksX0_letter_0 10 rfl rfl)
theorem dX0_letter_11 : decode cX0_letter 11 = .ok (.iconst 2, 1) := dk_5 (dk_at dksX0_letter_0 11 rfl rfl)
theorem dX0_letter_12 : decode cX0_letter 12 = .ok (.invokestatic 185, 3) := dk_184 0 185 (dk_at dksX0_letter_0 12 rfl rfl)
theorem dX0_letter_15 : decode cX0_letter 15 = .ok (.ifCond .eq 7, 3) := dk_153 0 7 (dk_at dksX0_letter_0 15 rfl rfl)
theorem dX0_letter_18 : decode cX0_letter 18 = .ok (.iload_n 2, 1) := dk_28 (dk_at dksX0_letter_0 18 rfl rfl)
theorem dX0_letter_19 : decode cX0_letter 19 = .ok (.ifCond .ge 5, 3) := dk_156 0 5 (dk_at dksX0_letter_0 19 rfl rfl)
theorem dX0_letter_22 : decode cX0_letter 22 = .ok (.iconst (-1), 1) := dk_2 (dk_at dksX0_letter_0 22 rfl rfl)
theorem dX0_letter_23 : decode cX0_letter 23 = .ok (.ireturn, 1) := dk_172 (dk_at dksX0_letter_0 23 rfl rfl)
theorem dX0_letter_24 : decode cX0_letter 24 = .ok (.iload_n 1, 1) := dk_27 (dk_at dksX0_letter_1 0 rfl rfl)
theorem dX0_letter_25 : decode cX0_letter 25 = .ok (.ifCond .ne 13, 3) := dk_154 0 13 (dk_at dksX0_letter_1 1 rfl rfl)
theorem dX0_letter_28 : decode cX0_letter 28 = .ok (.aload_n 0, 1) := dk_42 (dk_at dksX0_letter_1 4 rfl rfl)
theorem dX0_letter_29 : decode cX0_letter 29 = .ok (.getfield 33, 3) := dk_180 0 33 (dk_at dksX0_letter_1 5 rfl rfl)
theorem dX0_letter_32 : decode cX0_letter 32 = .ok (.getfield 146, 3) := dk_180 0 146 (dk_at dksX0_letter_1 8 rfl rfl)
theorem dX0_letter_35 : decode cX0_letter 35 = .ok (.goto 25, 3) := dk_167 0 25 (dk_at dksX0_letter_1 11 rfl rfl)
theorem dX0_letter_38 : decode cX0_letter 38 = .ok (.iload_n 1, 1) := dk_27 (dk_at dksX0_letter_1 14 rfl rfl)
theorem dX0_letter_39 : decode cX0_letter 39 = .ok (.iconst 1, 1) := dk_4 (dk_at dksX0_letter_1 15 rfl rfl)
theorem dX0_letter_40 : decode cX0_letter 40 = .ok (.if_icmp .ne 13, 3) := dk_160 0 13 (dk_at dksX0_letter_1 16 rfl rfl)
theorem dX0_letter_43 : decode cX0_letter 43 = .ok (.aload_n 0, 1) := dk_42 (dk_at dksX0_letter_1 19 rfl rfl)
theorem dX0_letter_44 : decode cX0_letter 44 = .ok (.getfield 33, 3) := dk_180 0 33 (dk_at dksX0_letter_1 20 rfl rfl)
theorem dX0_letter_47 : decode cX0_letter 47 = .ok (.getfield 155, 3) := dk_180 0 155 (dk_at dksX0_letter_2 0 rfl rfl)
theorem dX0_letter_50 : decode cX0_letter 50 = .ok (.goto 10, 3) := dk_167 0 10 (dk_at dksX0_letter_2 3 rfl rfl)
theorem dX0_letter_53 : decode cX0_letter 53 = .ok (.aload_n 0, 1) := dk_42 (dk_at dksX0_letter_2 6 rfl rfl)
theorem dX0_letter_54 : decode cX0_letter 54 = .ok (.getfield 33, 3) := dk_180 0 33 (dk_at dksX0_letter_2 7 rfl rfl)
theorem dX0_letter_57 : decode cX0_letter 57 = .ok (.getfield 158, 3) := dk_180 0 158 (dk_at dksX0_letter_2 10 rfl rfl)
theorem dX0_letter_60 : decode cX0_letter 60 = .ok (.astore 4, 2) := dk_58 4 (dk_at dksX0_letter_2 13 rfl rfl)
theorem dX0_letter_62 : decode cX0_letter 62 = .ok (.iload_n 2, 1) := dk_28 (dk_at dksX0_letter_2 15 rfl rfl)
theorem dX0_letter_63 : decode cX0_letter 63 = .ok (.aload 4, 2) := dk_25 4 (dk_at dksX0_letter_2 16 rfl rfl)
theorem dX0_letter_65 : decode cX0_letter 65 = .ok (.invokeinterface 150 1, 5) := by decide +kernel
theorem dX0_letter_70 : decode cX0_letter 70 = .ok (.if_icmp .ge 21, 3) := dk_162 0 21 (dk_at dksX0_letter_3 0 rfl rfl)
theorem dX0_letter_73 : decode cX0_letter 73 = .ok (.aload 4, 2) := dk_25 4 (dk_at dksX0_letter_3 3 rfl rfl)
theorem dX0_letter_75 : decode cX0_letter 75 = .ok (.iload_n 2, 1) := dk_28 (dk_at dksX0_letter_3 5 rfl rfl)
theorem dX0_letter_76 : decode cX0_letter 76 = .ok (.invokeinterface 167 2, 5) := by decide +kernel
theorem dX0_letter_81 : decode cX0_letter 81 = .ok (.checkcast 221, 3) := dk_192 0 221 (dk_at dksX0_letter_3 11 rfl rfl)
theorem dX0_letter_84 : decode cX0_letter 84 = .ok (.iload_n 3, 1) := dk_29 (dk_at dksX0_letter_3 14 rfl rfl)
theorem dX0_letter_85 : decode cX0_letter 85 = .ok (.invokevirtual 223, 3) := dk_182 0 223 (dk_at dksX0_letter_3 15 rfl rfl)
theorem dX0_letter_88 : decode cX0_letter 88 = .ok (.goto 4, 3) := dk_167 0 4 (dk_at dksX0_letter_3 18 rfl rfl)
theorem dX0_letter_91 : decode cX0_letter 91 = .ok (.iconst (-1), 1) := dk_2 (dk_at dksX0_letter_3 21 rfl rfl)
theorem dX0_letter_92 : decode cX0_letter 92 = .ok (.ireturn, 1) := dk_172 (dk_at dksX0_letter_3 22 rfl rfl)
abbrev cX0_film : ByteArray := prog_1_method_28_code
def yX0_film : MethodName := ⟨RX0, "film", "(II)I"⟩
def dkwX0_film_2 : List UInt8 := [182, 0, 189, 180, 0, 193, 28, 16, 10, 100, 46, 167, 0, 4, 2, 172]
abbrev dktX0_film_2 : List UInt8 := dkwX0_film_2 ++ []
def dkwX0_film_1 : List UInt8 := [167, 0, 37, 28, 16, 10, 161, 0, 30, 42, 28, 16, 10, 100, 182, 0, 233, 153, 0, 19, 42, 27]
abbrev dktX0_film_1 : List UInt8 := dkwX0_film_1 ++ dktX0_film_2
def dkwX0_film_0 : List UInt8 := [42, 27, 182, 0, 226, 154, 0, 5, 2, 172, 28, 154, 0, 14, 42, 27, 182, 0, 189, 180, 0, 230]
abbrev dktX0_film_0 : List UInt8 := dkwX0_film_0 ++ dktX0_film_1
theorem dksX0_film_0 : cX0_film.data.toList.drop 0 = dktX0_film_0 := by decide +kernel
theorem dksX0_film_1 : cX0_film.data.toList.drop 22 = dktX0_film_1 := dk_seg dksX0_film_0 22 rfl rfl
theorem dksX0_film_2 : cX0_film.data.toList.drop 44 = dktX0_film_2 := dk_seg dksX0_film_1 22 rfl rfl
theorem dX0_film_0 : decode cX0_film 0 = .ok (.aload_n 0, 1) := dk_42 (dk_at dksX0_film_0 0 rfl rfl)
theorem dX0_film_1 : decode cX0_film 1 = .ok (.iload_n 1, 1) := dk_27 (dk_at dksX0_film_0 1 rfl rfl)
theorem dX0_film_2 : decode cX0_film 2 = .ok (.invokevirtual 226, 3) := dk_182 0 226 (dk_at dksX0_film_0 2 rfl rfl)
theorem dX0_film_5 : decode cX0_film 5 = .ok (.ifCond .ne 5, 3) := dk_154 0 5 (dk_at dksX0_film_0 5 rfl rfl)
theorem dX0_film_8 : decode cX0_film 8 = .ok (.iconst (-1), 1) := dk_2 (dk_at dksX0_film_0 8 rfl rfl)
theorem dX0_film_9 : decode cX0_film 9 = .ok (.ireturn, 1) := dk_172 (dk_at dksX0_film_0 9 rfl rfl)
theorem dX0_film_10 : decode cX0_film 10 = .ok (.iload_n 2, 1) := dk_28 (dk_at dksX0_film_0 10 rfl rfl)
theorem dX0_film_11 : decode cX0_film 11 = .ok (.ifCond .ne 14, 3) := dk_154 0 14 (dk_at dksX0_film_0 11 rfl rfl)
theorem dX0_film_14 : decode cX0_film 14 = .ok (.aload_n 0, 1) := dk_42 (dk_at dksX0_film_0 14 rfl rfl)
theorem dX0_film_15 : decode cX0_film 15 = .ok (.iload_n 1, 1) := dk_27 (dk_at dksX0_film_0 15 rfl rfl)
theorem dX0_film_16 : decode cX0_film 16 = .ok (.invokevirtual 189, 3) := dk_182 0 189 (dk_at dksX0_film_0 16 rfl rfl)
theorem dX0_film_19 : decode cX0_film 19 = .ok (.getfield 230, 3) := dk_180 0 230 (dk_at dksX0_film_0 19 rfl rfl)
theorem dX0_film_22 : decode cX0_film 22 = .ok (.goto 37, 3) := dk_167 0 37 (dk_at dksX0_film_1 0 rfl rfl)
theorem dX0_film_25 : decode cX0_film 25 = .ok (.iload_n 2, 1) := dk_28 (dk_at dksX0_film_1 3 rfl rfl)
theorem dX0_film_26 : decode cX0_film 26 = .ok (.bipush 10, 2) := dk_16 10 (dk_at dksX0_film_1 4 rfl rfl)
theorem dX0_film_28 : decode cX0_film 28 = .ok (.if_icmp .lt 30, 3) := dk_161 0 30 (dk_at dksX0_film_1 6 rfl rfl)
theorem dX0_film_31 : decode cX0_film 31 = .ok (.aload_n 0, 1) := dk_42 (dk_at dksX0_film_1 9 rfl rfl)
theorem dX0_film_32 : decode cX0_film 32 = .ok (.iload_n 2, 1) := dk_28 (dk_at dksX0_film_1 10 rfl rfl)
theorem dX0_film_33 : decode cX0_film 33 = .ok (.bipush 10, 2) := dk_16 10 (dk_at dksX0_film_1 11 rfl rfl)
theorem dX0_film_35 : decode cX0_film 35 = .ok (.isub, 1) := dk_100 (dk_at dksX0_film_1 13 rfl rfl)
theorem dX0_film_36 : decode cX0_film 36 = .ok (.invokevirtual 233, 3) := dk_182 0 233 (dk_at dksX0_film_1 14 rfl rfl)
theorem dX0_film_39 : decode cX0_film 39 = .ok (.ifCond .eq 19, 3) := dk_153 0 19 (dk_at dksX0_film_1 17 rfl rfl)
theorem dX0_film_42 : decode cX0_film 42 = .ok (.aload_n 0, 1) := dk_42 (dk_at dksX0_film_1 20 rfl rfl)
theorem dX0_film_43 : decode cX0_film 43 = .ok (.iload_n 1, 1) := dk_27 (dk_at dksX0_film_1 21 rfl rfl)
theorem dX0_film_44 : decode cX0_film 44 = .ok (.invokevirtual 189, 3) := dk_182 0 189 (dk_at dksX0_film_2 0 rfl rfl)
theorem dX0_film_47 : decode cX0_film 47 = .ok (.getfield 193, 3) := dk_180 0 193 (dk_at dksX0_film_2 3 rfl rfl)
theorem dX0_film_50 : decode cX0_film 50 = .ok (.iload_n 2, 1) := dk_28 (dk_at dksX0_film_2 6 rfl rfl)
theorem dX0_film_51 : decode cX0_film 51 = .ok (.bipush 10, 2) := dk_16 10 (dk_at dksX0_film_2 7 rfl rfl)
theorem dX0_film_53 : decode cX0_film 53 = .ok (.isub, 1) := dk_100 (dk_at dksX0_film_2 9 rfl rfl)
theorem dX0_film_54 : decode cX0_film 54 = .ok (.iaload, 1) := dk_46 (dk_at dksX0_film_2 10 rfl rfl)
theorem dX0_film_55 : decode cX0_film 55 = .ok (.goto 4, 3) := dk_167 0 4 (dk_at dksX0_film_2 11 rfl rfl)
theorem dX0_film_58 : decode cX0_film 58 = .ok (.iconst (-1), 1) := dk_2 (dk_at dksX0_film_2 14 rfl rfl)
theorem dX0_film_59 : decode cX0_film 59 = .ok (.ireturn, 1) := dk_172 (dk_at dksX0_film_2 15 rfl rfl)
abbrev cX0_isFilm : ByteArray := prog_1_method_19_code
def yX0_isFilm : MethodName := ⟨RX0, "isFilm", "(I)Z"⟩
def dkwX0_isFilm_0 : List UInt8 := [27, 155, 0, 15, 27, 42, 182, 0, 163, 162, 0, 7, 4, 167, 0, 4, 3, 172]
abbrev dktX0_isFilm_0 : List UInt8 := dkwX0_isFilm_0 ++ []
theorem dksX0_isFilm_0 : cX0_isFilm.data.toList.drop 0 = dktX0_isFilm_0 := by decide +kernel
theorem dX0_isFilm_0 : decode cX0_isFilm 0 = .ok (.iload_n 1, 1) := dk_27 (dk_at dksX0_isFilm_0 0 rfl rfl)
theorem dX0_isFilm_1 : decode cX0_isFilm 1 = .ok (.ifCond .lt 15, 3) := dk_155 0 15 (dk_at dksX0_isFilm_0 1 rfl rfl)
theorem dX0_isFilm_4 : decode cX0_isFilm 4 = .ok (.iload_n 1, 1) := dk_27 (dk_at dksX0_isFilm_0 4 rfl rfl)
theorem dX0_isFilm_5 : decode cX0_isFilm 5 = .ok (.aload_n 0, 1) := dk_42 (dk_at dksX0_isFilm_0 5 rfl rfl)
theorem dX0_isFilm_6 : decode cX0_isFilm 6 = .ok (.invokevirtual 163, 3) := dk_182 0 163 (dk_at dksX0_isFilm_0 6 rfl rfl)
theorem dX0_isFilm_9 : decode cX0_isFilm 9 = .ok (.if_icmp .ge 7, 3) := dk_162 0 7 (dk_at dksX0_isFilm_0 9 rfl rfl)
theorem dX0_isFilm_12 : decode cX0_isFilm 12 = .ok (.iconst 1, 1) := dk_4 (dk_at dksX0_isFilm_0 12 rfl rfl)
theorem dX0_isFilm_13 : decode cX0_isFilm 13 = .ok (.goto 4, 3) := dk_167 0 4 (dk_at dksX0_isFilm_0 13 rfl rfl)
theorem dX0_isFilm_16 : decode cX0_isFilm 16 = .ok (.iconst 0, 1) := dk_3 (dk_at dksX0_isFilm_0 16 rfl rfl)
theorem dX0_isFilm_17 : decode cX0_isFilm 17 = .ok (.ireturn, 1) := dk_172 (dk_at dksX0_isFilm_0 17 rfl rfl)
abbrev cX0_filmOf : ByteArray := prog_1_method_21_code
def yX0_filmOf : MethodName := ⟨RX0, "filmOf", "(I)LFourOnOne$Film;"⟩
def dkwX0_filmOf_0 : List UInt8 := [42, 180, 0, 33, 180, 0, 155, 27, 185, 0, 167, 2, 0, 192, 0, 171, 176]
abbrev dktX0_filmOf_0 : List UInt8 := dkwX0_filmOf_0 ++ []
theorem dksX0_filmOf_0 : cX0_filmOf.data.toList.drop 0 = dktX0_filmOf_0 := by decide +kernel
theorem dX0_filmOf_0 : decode cX0_filmOf 0 = .ok (.aload_n 0, 1) := dk_42 (dk_at dksX0_filmOf_0 0 rfl rfl)
theorem dX0_filmOf_1 : decode cX0_filmOf 1 = .ok (.getfield 33, 3) := dk_180 0 33 (dk_at dksX0_filmOf_0 1 rfl rfl)
theorem dX0_filmOf_4 : decode cX0_filmOf 4 = .ok (.getfield 155, 3) := dk_180 0 155 (dk_at dksX0_filmOf_0 4 rfl rfl)
theorem dX0_filmOf_7 : decode cX0_filmOf 7 = .ok (.iload_n 1, 1) := dk_27 (dk_at dksX0_filmOf_0 7 rfl rfl)
theorem dX0_filmOf_8 : decode cX0_filmOf 8 = .ok (.invokeinterface 167 2, 5) := by decide +kernel
theorem dX0_filmOf_13 : decode cX0_filmOf 13 = .ok (.checkcast 171, 3) := dk_192 0 171 (dk_at dksX0_filmOf_0 13 rfl rfl)
theorem dX0_filmOf_16 : decode cX0_filmOf 16 = .ok (.areturn, 1) := dk_176 (dk_at dksX0_filmOf_0 16 rfl rfl)
abbrev cX0_isKind : ByteArray := prog_1_method_18_code
def yX0_isKind : MethodName := ⟨RX0, "isKind", "(I)Z"⟩
def dkwX0_isKind_0 : List UInt8 := [27, 155, 0, 15, 27, 42, 182, 0, 161, 162, 0, 7, 4, 167, 0, 4, 3, 172]
abbrev dktX0_isKind_0 : List UInt8 := dkwX0_isKind_0 ++ []
theorem dksX0_isKind_0 : cX0_isKind.data.toList.drop 0 = dktX0_isKind_0 := by decide +kernel
theorem dX0_isKind_0 : decode cX0_isKind 0 = .ok (.iload_n 1, 1) := dk_27 (dk_at dksX0_isKind_0 0 rfl rfl)
theorem dX0_isKind_1 : decode cX0_isKind 1 = .ok (.ifCond .lt 15, 3) := dk_155 0 15 (dk_at dksX0_isKind_0 1 rfl rfl)
theorem dX0_isKind_4 : decode cX0_isKind 4 = .ok (.iload_n 1, 1) := dk_27 (dk_at dksX0_isKind_0 4 rfl rfl)
theorem dX0_isKind_5 : decode cX0_isKind 5 = .ok (.aload_n 0, 1) := dk_42 (dk_at dksX0_isKind_0 5 rfl rfl)
theorem dX0_isKind_6 : decode cX0_isKind 6 = .ok (.invokevirtual 161, 3) := dk_182 0 161 (dk_at dksX0_isKind_0 6 rfl rfl)
theorem dX0_isKind_9 : decode cX0_isKind 9 = .ok (.if_icmp .ge 7, 3) := dk_162 0 7 (dk_at dksX0_isKind_0 9 rfl rfl)
theorem dX0_isKind_12 : decode cX0_isKind 12 = .ok (.iconst 1, 1) := dk_4 (dk_at dksX0_isKind_0 12 rfl rfl)
theorem dX0_isKind_13 : decode cX0_isKind 13 = .ok (.goto 4, 3) := dk_167 0 4 (dk_at dksX0_isKind_0 13 rfl rfl)
theorem dX0_isKind_16 : decode cX0_isKind 16 = .ok (.iconst 0, 1) := dk_3 (dk_at dksX0_isKind_0 16 rfl rfl)
theorem dX0_isKind_17 : decode cX0_isKind 17 = .ok (.ireturn, 1) := dk_172 (dk_at dksX0_isKind_0 17 rfl rfl)
abbrev cX0_person : ByteArray := prog_1_method_29_code
def yX0_person : MethodName := ⟨RX0, "person", "(II)I"⟩
def dkwX0_person_5 : List UInt8 := [180, 0, 195, 28, 16, 10, 100, 46, 167, 0, 4, 2, 172]
abbrev dktX0_person_5 : List UInt8 := dkwX0_person_5 ++ []
def dkwX0_person_4 : List UInt8 := [46, 172, 28, 16, 10, 161, 0, 30, 42, 28, 16, 10, 100, 182, 0, 233, 153, 0, 19, 42, 27, 182, 0, 175]
abbrev dktX0_person_4 : List UInt8 := dkwX0_person_4 ++ dktX0_person_5
def dkwX0_person_3 : List UInt8 := [180, 0, 204, 27, 184, 0, 239, 153, 0, 7, 4, 167, 0, 4, 3, 172, 42, 180, 0, 71, 180, 0, 218, 27]
abbrev dktX0_person_3 : List UInt8 := dkwX0_person_3 ++ dktX0_person_4
def dkwX0_person_2 : List UInt8 := [42, 27, 182, 0, 175, 180, 0, 179, 172, 42, 27, 182, 0, 175, 180, 0, 182, 172, 42, 180, 0, 71]
abbrev dktX0_person_2 : List UInt8 := dkwX0_person_2 ++ dktX0_person_3
def dkwX0_person_1 : List UInt8 := [170, 0, 0, 0, 77, 0, 0, 0, 0, 0, 0, 0, 3, 0, 0, 0, 29, 0, 0, 0, 38, 0, 0, 0, 47, 0, 0, 0, 67]
abbrev dktX0_person_1 : List UInt8 := dkwX0_person_1 ++ dktX0_person_2
def dkwX0_person_0 : List UInt8 := [42, 27, 182, 0, 236, 154, 0, 5, 2, 172, 28]
abbrev dktX0_person_0 : List UInt8 := dkwX0_person_0 ++ dktX0_person_1
theorem dksX0_person_0 : cX0_person.data.toList.drop 0 = dktX0_person_0 := by decide +kernel
theorem dksX0_person_1 : cX0_person.data.toList.drop 11 = dktX0_person_1 := dk_seg dksX0_person_0 11 rfl rfl
theorem dksX0_person_2 : cX0_person.data.toList.drop 40 = dktX0_person_2 := dk_seg dksX0_person_1 29 rfl rfl
theorem dksX0_person_3 : cX0_person.data.toList.drop 62 = dktX0_person_3 := dk_seg dksX0_person_2 22 rfl rfl
theorem dksX0_person_4 : cX0_person.data.toList.drop 86 = dktX0_person_4 := dk_seg dksX0_person_3 24 rfl rfl
theorem dksX0_person_5 : cX0_person.data.toList.drop 110 = dktX0_person_5 := dk_seg dksX0_person_4 24 rfl rfl
theorem dX0_person_0 : decode cX0_person 0 = .ok (.aload_n 0, 1) := dk_42 (dk_at dksX0_person_0 0 rfl rfl)
theorem dX0_person_1 : decode cX0_person 1 = .ok (.iload_n 1, 1) := dk_27 (dk_at dksX0_person_0 1 rfl rfl)
theorem dX0_person_2 : decode cX0_person 2 = .ok (.invokevirtual 236, 3) := dk_182 0 236 (dk_at dksX0_person_0 2 rfl rfl)
theorem dX0_person_5 : decode cX0_person 5 = .ok (.ifCond .ne 5, 3) := dk_154 0 5 (dk_at dksX0_person_0 5 rfl rfl)
theorem dX0_person_8 : decode cX0_person 8 = .ok (.iconst (-1), 1) := dk_2 (dk_at dksX0_person_0 8 rfl rfl)
theorem dX0_person_9 : decode cX0_person 9 = .ok (.ireturn, 1) := dk_172 (dk_at dksX0_person_0 9 rfl rfl)
theorem dX0_person_10 : decode cX0_person 10 = .ok (.iload_n 2, 1) := dk_28 (dk_at dksX0_person_0 10 rfl rfl)
theorem dX0_person_11 : decode cX0_person 11 = .ok (.tableswitch 77 0 3 #[29, 38, 47, 67], 29) := by decide +kernel
theorem dX0_person_40 : decode cX0_person 40 = .ok (.aload_n 0, 1) := dk_42 (dk_at dksX0_person_2 0 rfl rfl)
theorem dX0_person_41 : decode cX0_person 41 = .ok (.iload_n 1, 1) := dk_27 (dk_at dksX0_person_2 1 rfl rfl)
theorem dX0_person_42 : decode cX0_person 42 = .ok (.invokevirtual 175, 3) := dk_182 0 175 (dk_at dksX0_person_2 2 rfl rfl)
theorem dX0_person_45 : decode cX0_person 45 = .ok (.getfield 179, 3) := dk_180 0 179 (dk_at dksX0_person_2 5 rfl rfl)
theorem dX0_person_48 : decode cX0_person 48 = .ok (.ireturn, 1) := dk_172 (dk_at dksX0_person_2 8 rfl rfl)
theorem dX0_person_49 : decode cX0_person 49 = .ok (.aload_n 0, 1) := dk_42 (dk_at dksX0_person_2 9 rfl rfl)
theorem dX0_person_50 : decode cX0_person 50 = .ok (.iload_n 1, 1) := dk_27 (dk_at dksX0_person_2 10 rfl rfl)
theorem dX0_person_51 : decode cX0_person 51 = .ok (.invokevirtual 175, 3) := dk_182 0 175 (dk_at dksX0_person_2 11 rfl rfl)
theorem dX0_person_54 : decode cX0_person 54 = .ok (.getfield 182, 3) := dk_180 0 182 (dk_at dksX0_person_2 14 rfl rfl)
theorem dX0_person_57 : decode cX0_person 57 = .ok (.ireturn, 1) := dk_172 (dk_at dksX0_person_2 17 rfl rfl)
theorem dX0_person_58 : decode cX0_person 58 = .ok (.aload_n 0, 1) := dk_42 (dk_at dksX0_person_2 18 rfl rfl)
theorem dX0_person_59 : decode cX0_person 59 = .ok (.getfield 71, 3) := dk_180 0 71 (dk_at dksX0_person_2 19 rfl rfl)
theorem dX0_person_62 : decode cX0_person 62 = .ok (.getfield 204, 3) := dk_180 0 204 (dk_at dksX0_person_3 0 rfl rfl)
theorem dX0_person_65 : decode cX0_person 65 = .ok (.iload_n 1, 1) := dk_27 (dk_at dksX0_person_3 3 rfl rfl)
theorem dX0_person_66 : decode cX0_person 66 = .ok (.invokestatic 239, 3) := dk_184 0 239 (dk_at dksX0_person_3 4 rfl rfl)
theorem dX0_person_69 : decode cX0_person 69 = .ok (.ifCond .eq 7, 3) := dk_153 0 7 (dk_at dksX0_person_3 7 rfl rfl)
theorem dX0_person_72 : decode cX0_person 72 = .ok (.iconst 1, 1) := dk_4 (dk_at dksX0_person_3 10 rfl rfl)
theorem dX0_person_73 : decode cX0_person 73 = .ok (.goto 4, 3) := dk_167 0 4 (dk_at dksX0_person_3 11 rfl rfl)
theorem dX0_person_76 : decode cX0_person 76 = .ok (.iconst 0, 1) := dk_3 (dk_at dksX0_person_3 14 rfl rfl)
theorem dX0_person_77 : decode cX0_person 77 = .ok (.ireturn, 1) := dk_172 (dk_at dksX0_person_3 15 rfl rfl)
theorem dX0_person_78 : decode cX0_person 78 = .ok (.aload_n 0, 1) := dk_42 (dk_at dksX0_person_3 16 rfl rfl)
theorem dX0_person_79 : decode cX0_person 79 = .ok (.getfield 71, 3) := dk_180 0 71 (dk_at dksX0_person_3 17 rfl rfl)
theorem dX0_person_82 : decode cX0_person 82 = .ok (.getfield 218, 3) := dk_180 0 218 (dk_at dksX0_person_3 20 rfl rfl)
theorem dX0_person_85 : decode cX0_person 85 = .ok (.iload_n 1, 1) := dk_27 (dk_at dksX0_person_3 23 rfl rfl)
theorem dX0_person_86 : decode cX0_person 86 = .ok (.iaload, 1) := dk_46 (dk_at dksX0_person_4 0 rfl rfl)
theorem dX0_person_87 : decode cX0_person 87 = .ok (.ireturn, 1) := dk_172 (dk_at dksX0_person_4 1 rfl rfl)
theorem dX0_person_88 : decode cX0_person 88 = .ok (.iload_n 2, 1) := dk_28 (dk_at dksX0_person_4 2 rfl rfl)
theorem dX0_person_89 : decode cX0_person 89 = .ok (.bipush 10, 2) := dk_16 10 (dk_at dksX0_person_4 3 rfl rfl)
theorem dX0_person_91 : decode cX0_person 91 = .ok (.if_icmp .lt 30, 3) := dk_161 0 30 (dk_at dksX0_person_4 5 rfl rfl)
theorem dX0_person_94 : decode cX0_person 94 = .ok (.aload_n 0, 1) := dk_42 (dk_at dksX0_person_4 8 rfl rfl)
theorem dX0_person_95 : decode cX0_person 95 = .ok (.iload_n 2, 1) := dk_28 (dk_at dksX0_person_4 9 rfl rfl)
theorem dX0_person_96 : decode cX0_person 96 = .ok (.bipush 10, 2) := dk_16 10 (dk_at dksX0_person_4 10 rfl rfl)
theorem dX0_person_98 : decode cX0_person 98 = .ok (.isub, 1) := dk_100 (dk_at dksX0_person_4 12 rfl rfl)
theorem dX0_person_99 : decode cX0_person 99 = .ok (.invokevirtual 233, 3) := dk_182 0 233 (dk_at dksX0_person_4 13 rfl rfl)
theorem dX0_person_102 : decode cX0_person 102 = .ok (.ifCond .eq 19, 3) := dk_153 0 19 (dk_at dksX0_person_4 16 rfl rfl)
theorem dX0_person_105 : decode cX0_person 105 = .ok (.aload_n 0, 1) := dk_42 (dk_at dksX0_person_4 19 rfl rfl)
theorem dX0_person_106 : decode cX0_person 106 = .ok (.iload_n 1, 1) := dk_27 (dk_at dksX0_person_4 20 rfl rfl)
theorem dX0_person_107 : decode cX0_person 107 = .ok (.invokevirtual 175, 3) := dk_182 0 175 (dk_at dksX0_person_4 21 rfl rfl)
theorem dX0_person_110 : decode cX0_person 110 = .ok (.getfield 195, 3) := dk_180 0 195 (dk_at dksX0_person_5 0 rfl rfl)
theorem dX0_person_113 : decode cX0_person 113 = .ok (.iload_n 2, 1) := dk_28 (dk_at dksX0_person_5 3 rfl rfl)
theorem dX0_person_114 : decode cX0_person 114 = .ok (.bipush 10, 2) := dk_16 10 (dk_at dksX0_person_5 4 rfl rfl)
theorem dX0_person_116 : decode cX0_person 116 = .ok (.isub, 1) := dk_100 (dk_at dksX0_person_5 6 rfl rfl)
theorem dX0_person_117 : decode cX0_person 117 = .ok (.iaload, 1) := dk_46 (dk_at dksX0_person_5 7 rfl rfl)
theorem dX0_person_118 : decode cX0_person 118 = .ok (.goto 4, 3) := dk_167 0 4 (dk_at dksX0_person_5 8 rfl rfl)
theorem dX0_person_121 : decode cX0_person 121 = .ok (.iconst (-1), 1) := dk_2 (dk_at dksX0_person_5 11 rfl rfl)
theorem dX0_person_122 : decode cX0_person 122 = .ok (.ireturn, 1) := dk_172 (dk_at dksX0_person_5 12 rfl rfl)
abbrev cX0_isPerson : ByteArray := prog_1_method_20_code
def yX0_isPerson : MethodName := ⟨RX0, "isPerson", "(I)Z"⟩
def dkwX0_isPerson_0 : List UInt8 := [27, 155, 0, 15, 27, 42, 182, 0, 165, 162, 0, 7, 4, 167, 0, 4, 3, 172]
abbrev dktX0_isPerson_0 : List UInt8 := dkwX0_isPerson_0 ++ []
theorem dksX0_isPerson_0 : cX0_isPerson.data.toList.drop 0 = dktX0_isPerson_0 := by decide +kernel
theorem dX0_isPerson_0 : decode cX0_isPerson 0 = .ok (.iload_n 1, 1) := dk_27 (dk_at dksX0_isPerson_0 0 rfl rfl)
theorem dX0_isPerson_1 : decode cX0_isPerson 1 = .ok (.ifCond .lt 15, 3) := dk_155 0 15 (dk_at dksX0_isPerson_0 1 rfl rfl)
theorem dX0_isPerson_4 : decode cX0_isPerson 4 = .ok (.iload_n 1, 1) := dk_27 (dk_at dksX0_isPerson_0 4 rfl rfl)
theorem dX0_isPerson_5 : decode cX0_isPerson 5 = .ok (.aload_n 0, 1) := dk_42 (dk_at dksX0_isPerson_0 5 rfl rfl)
theorem dX0_isPerson_6 : decode cX0_isPerson 6 = .ok (.invokevirtual 165, 3) := dk_182 0 165 (dk_at dksX0_isPerson_0 6 rfl rfl)
theorem dX0_isPerson_9 : decode cX0_isPerson 9 = .ok (.if_icmp .ge 7, 3) := dk_162 0 7 (dk_at dksX0_isPerson_0 9 rfl rfl)
theorem dX0_isPerson_12 : decode cX0_isPerson 12 = .ok (.iconst 1, 1) := dk_4 (dk_at dksX0_isPerson_0 12 rfl rfl)
theorem dX0_isPerson_13 : decode cX0_isPerson 13 = .ok (.goto 4, 3) := dk_167 0 4 (dk_at dksX0_isPerson_0 13 rfl rfl)
theorem dX0_isPerson_16 : decode cX0_isPerson 16 = .ok (.iconst 0, 1) := dk_3 (dk_at dksX0_isPerson_0 16 rfl rfl)
theorem dX0_isPerson_17 : decode cX0_isPerson 17 = .ok (.ireturn, 1) := dk_172 (dk_at dksX0_isPerson_0 17 rfl rfl)
abbrev cX0_personOf : ByteArray := prog_1_method_22_code
def yX0_personOf : MethodName := ⟨RX0, "personOf", "(I)LFourOnOne$Person;"⟩
def dkwX0_personOf_0 : List UInt8 := [42, 180, 0, 33, 180, 0, 158, 27, 185, 0, 167, 2, 0, 192, 0, 173, 176]
abbrev dktX0_personOf_0 : List UInt8 := dkwX0_personOf_0 ++ []
theorem dksX0_personOf_0 : cX0_personOf.data.toList.drop 0 = dktX0_personOf_0 := by decide +kernel
theorem dX0_personOf_0 : decode cX0_personOf 0 = .ok (.aload_n 0, 1) := dk_42 (dk_at dksX0_personOf_0 0 rfl rfl)
theorem dX0_personOf_1 : decode cX0_personOf 1 = .ok (.getfield 33, 3) := dk_180 0 33 (dk_at dksX0_personOf_0 1 rfl rfl)
theorem dX0_personOf_4 : decode cX0_personOf 4 = .ok (.getfield 158, 3) := dk_180 0 158 (dk_at dksX0_personOf_0 4 rfl rfl)
theorem dX0_personOf_7 : decode cX0_personOf 7 = .ok (.iload_n 1, 1) := dk_27 (dk_at dksX0_personOf_0 7 rfl rfl)
theorem dX0_personOf_8 : decode cX0_personOf 8 = .ok (.invokeinterface 167 2, 5) := by decide +kernel
theorem dX0_personOf_13 : decode cX0_personOf 13 = .ok (.checkcast 173, 3) := dk_192 0 173 (dk_at dksX0_personOf_0 13 rfl rfl)
theorem dX0_personOf_16 : decode cX0_personOf 16 = .ok (.areturn, 1) := dk_176 (dk_at dksX0_personOf_0 16 rfl rfl)
abbrev cX0_taste : ByteArray := prog_1_method_30_code
def yX0_taste : MethodName := ⟨RX0, "taste", "(II)I"⟩
def dkwX0_taste_1 : List UInt8 := [180, 0, 71, 180, 0, 243, 27, 4, 96, 50, 28, 46, 167, 0, 4, 2, 172]
abbrev dktX0_taste_1 : List UInt8 := dkwX0_taste_1 ++ []
def dkwX0_taste_0 : List UInt8 := [27, 2, 159, 0, 11, 42, 27, 182, 0, 236, 153, 0, 27, 42, 28, 182, 0, 233, 153, 0, 19, 42]
abbrev dktX0_taste_0 : List UInt8 := dkwX0_taste_0 ++ dktX0_taste_1
theorem dksX0_taste_0 : cX0_taste.data.toList.drop 0 = dktX0_taste_0 := by decide +kernel
theorem dksX0_taste_1 : cX0_taste.data.toList.drop 22 = dktX0_taste_1 := dk_seg dksX0_taste_0 22 rfl rfl
theorem dX0_taste_0 : decode cX0_taste 0 = .ok (.iload_n 1, 1) := dk_27 (dk_at dksX0_taste_0 0 rfl rfl)
theorem dX0_taste_1 : decode cX0_taste 1 = .ok (.iconst (-1), 1) := dk_2 (dk_at dksX0_taste_0 1 rfl rfl)
theorem dX0_taste_2 : decode cX0_taste 2 = .ok (.if_icmp .eq 11, 3) := dk_159 0 11 (dk_at dksX0_taste_0 2 rfl rfl)
theorem dX0_taste_5 : decode cX0_taste 5 = .ok (.aload_n 0, 1) := dk_42 (dk_at dksX0_taste_0 5 rfl rfl)
theorem dX0_taste_6 : decode cX0_taste 6 = .ok (.iload_n 1, 1) := dk_27 (dk_at dksX0_taste_0 6 rfl rfl)
theorem dX0_taste_7 : decode cX0_taste 7 = .ok (.invokevirtual 236, 3) := dk_182 0 236 (dk_at dksX0_taste_0 7 rfl rfl)
theorem dX0_taste_10 : decode cX0_taste 10 = .ok (.ifCond .eq 27, 3) := dk_153 0 27 (dk_at dksX0_taste_0 10 rfl rfl)
theorem dX0_taste_13 : decode cX0_taste 13 = .ok (.aload_n 0, 1) := dk_42 (dk_at dksX0_taste_0 13 rfl rfl)
theorem dX0_taste_14 : decode cX0_taste 14 = .ok (.iload_n 2, 1) := dk_28 (dk_at dksX0_taste_0 14 rfl rfl)
theorem dX0_taste_15 : decode cX0_taste 15 = .ok (.invokevirtual 233, 3) := dk_182 0 233 (dk_at dksX0_taste_0 15 rfl rfl)
theorem dX0_taste_18 : decode cX0_taste 18 = .ok (.ifCond .eq 19, 3) := dk_153 0 19 (dk_at dksX0_taste_0 18 rfl rfl)
theorem dX0_taste_21 : decode cX0_taste 21 = .ok (.aload_n 0, 1) := dk_42 (dk_at dksX0_taste_0 21 rfl rfl)
theorem dX0_taste_22 : decode cX0_taste 22 = .ok (.getfield 71, 3) := dk_180 0 71 (dk_at dksX0_taste_1 0 rfl rfl)
theorem dX0_taste_25 : decode cX0_taste 25 = .ok (.getfield 243, 3) := dk_180 0 243 (dk_at dksX0_taste_1 3 rfl rfl)
theorem dX0_taste_28 : decode cX0_taste 28 = .ok (.iload_n 1, 1) := dk_27 (dk_at dksX0_taste_1 6 rfl rfl)
theorem dX0_taste_29 : decode cX0_taste 29 = .ok (.iconst 1, 1) := dk_4 (dk_at dksX0_taste_1 7 rfl rfl)
theorem dX0_taste_30 : decode cX0_taste 30 = .ok (.iadd, 1) := dk_96 (dk_at dksX0_taste_1 8 rfl rfl)
theorem dX0_taste_31 : decode cX0_taste 31 = .ok (.aaload, 1) := dk_50 (dk_at dksX0_taste_1 9 rfl rfl)
theorem dX0_taste_32 : decode cX0_taste 32 = .ok (.iload_n 2, 1) := dk_28 (dk_at dksX0_taste_1 10 rfl rfl)
theorem dX0_taste_33 : decode cX0_taste 33 = .ok (.iaload, 1) := dk_46 (dk_at dksX0_taste_1 11 rfl rfl)
theorem dX0_taste_34 : decode cX0_taste 34 = .ok (.goto 4, 3) := dk_167 0 4 (dk_at dksX0_taste_1 12 rfl rfl)
theorem dX0_taste_37 : decode cX0_taste 37 = .ok (.iconst (-1), 1) := dk_2 (dk_at dksX0_taste_1 15 rfl rfl)
theorem dX0_taste_38 : decode cX0_taste 38 = .ok (.ireturn, 1) := dk_172 (dk_at dksX0_taste_1 16 rfl rfl)
abbrev cX0_seen : ByteArray := prog_1_method_31_code
def yX0_seen : MethodName := ⟨RX0, "seen", "(II)I"⟩
def dkwX0_seen_1 : List UInt8 := [180, 0, 71, 180, 0, 247, 27, 4, 96, 50, 28, 46, 167, 0, 4, 2, 172]
abbrev dktX0_seen_1 : List UInt8 := dkwX0_seen_1 ++ []
def dkwX0_seen_0 : List UInt8 := [27, 2, 159, 0, 11, 42, 27, 182, 0, 236, 153, 0, 27, 42, 28, 182, 0, 226, 153, 0, 19, 42]
abbrev dktX0_seen_0 : List UInt8 := dkwX0_seen_0 ++ dktX0_seen_1
theorem dksX0_seen_0 : cX0_seen.data.toList.drop 0 = dktX0_seen_0 := by decide +kernel
theorem dksX0_seen_1 : cX0_seen.data.toList.drop 22 = dktX0_seen_1 := dk_seg dksX0_seen_0 22 rfl rfl
theorem dX0_seen_0 : decode cX0_seen 0 = .ok (.iload_n 1, 1) := dk_27 (dk_at dksX0_seen_0 0 rfl rfl)
theorem dX0_seen_1 : decode cX0_seen 1 = .ok (.iconst (-1), 1) := dk_2 (dk_at dksX0_seen_0 1 rfl rfl)
theorem dX0_seen_2 : decode cX0_seen 2 = .ok (.if_icmp .eq 11, 3) := dk_159 0 11 (dk_at dksX0_seen_0 2 rfl rfl)
theorem dX0_seen_5 : decode cX0_seen 5 = .ok (.aload_n 0, 1) := dk_42 (dk_at dksX0_seen_0 5 rfl rfl)
theorem dX0_seen_6 : decode cX0_seen 6 = .ok (.iload_n 1, 1) := dk_27 (dk_at dksX0_seen_0 6 rfl rfl)
theorem dX0_seen_7 : decode cX0_seen 7 = .ok (.invokevirtual 236, 3) := dk_182 0 236 (dk_at dksX0_seen_0 7 rfl rfl)
theorem dX0_seen_10 : decode cX0_seen 10 = .ok (.ifCond .eq 27, 3) := dk_153 0 27 (dk_at dksX0_seen_0 10 rfl rfl)
theorem dX0_seen_13 : decode cX0_seen 13 = .ok (.aload_n 0, 1) := dk_42 (dk_at dksX0_seen_0 13 rfl rfl)
theorem dX0_seen_14 : decode cX0_seen 14 = .ok (.iload_n 2, 1) := dk_28 (dk_at dksX0_seen_0 14 rfl rfl)
theorem dX0_seen_15 : decode cX0_seen 15 = .ok (.invokevirtual 226, 3) := dk_182 0 226 (dk_at dksX0_seen_0 15 rfl rfl)
theorem dX0_seen_18 : decode cX0_seen 18 = .ok (.ifCond .eq 19, 3) := dk_153 0 19 (dk_at dksX0_seen_0 18 rfl rfl)
theorem dX0_seen_21 : decode cX0_seen 21 = .ok (.aload_n 0, 1) := dk_42 (dk_at dksX0_seen_0 21 rfl rfl)
theorem dX0_seen_22 : decode cX0_seen 22 = .ok (.getfield 71, 3) := dk_180 0 71 (dk_at dksX0_seen_1 0 rfl rfl)
theorem dX0_seen_25 : decode cX0_seen 25 = .ok (.getfield 247, 3) := dk_180 0 247 (dk_at dksX0_seen_1 3 rfl rfl)
theorem dX0_seen_28 : decode cX0_seen 28 = .ok (.iload_n 1, 1) := dk_27 (dk_at dksX0_seen_1 6 rfl rfl)
theorem dX0_seen_29 : decode cX0_seen 29 = .ok (.iconst 1, 1) := dk_4 (dk_at dksX0_seen_1 7 rfl rfl)
theorem dX0_seen_30 : decode cX0_seen 30 = .ok (.iadd, 1) := dk_96 (dk_at dksX0_seen_1 8 rfl rfl)
theorem dX0_seen_31 : decode cX0_seen 31 = .ok (.aaload, 1) := dk_50 (dk_at dksX0_seen_1 9 rfl rfl)
theorem dX0_seen_32 : decode cX0_seen 32 = .ok (.iload_n 2, 1) := dk_28 (dk_at dksX0_seen_1 10 rfl rfl)
theorem dX0_seen_33 : decode cX0_seen 33 = .ok (.iaload, 1) := dk_46 (dk_at dksX0_seen_1 11 rfl rfl)
theorem dX0_seen_34 : decode cX0_seen 34 = .ok (.goto 4, 3) := dk_167 0 4 (dk_at dksX0_seen_1 12 rfl rfl)
theorem dX0_seen_37 : decode cX0_seen 37 = .ok (.iconst (-1), 1) := dk_2 (dk_at dksX0_seen_1 15 rfl rfl)
theorem dX0_seen_38 : decode cX0_seen 38 = .ok (.ireturn, 1) := dk_172 (dk_at dksX0_seen_1 16 rfl rfl)
abbrev cX0_suggest : ByteArray := prog_1_method_32_code
def yX0_suggest : MethodName := ⟨RX0, "suggest", "(I)I"⟩
def dkwX0_suggest_0 : List UInt8 := [42, 27, 182, 0, 236, 153, 0, 14, 42, 180, 0, 71, 27, 182, 0, 250, 167, 0, 4, 2, 172]
abbrev dktX0_suggest_0 : List UInt8 := dkwX0_suggest_0 ++ []
theorem dksX0_suggest_0 : cX0_suggest.data.toList.drop 0 = dktX0_suggest_0 := by decide +kernel
theorem dX0_suggest_0 : decode cX0_suggest 0 = .ok (.aload_n 0, 1) := dk_42 (dk_at dksX0_suggest_0 0 rfl rfl)
theorem dX0_suggest_1 : decode cX0_suggest 1 = .ok (.iload_n 1, 1) := dk_27 (dk_at dksX0_suggest_0 1 rfl rfl)
theorem dX0_suggest_2 : decode cX0_suggest 2 = .ok (.invokevirtual 236, 3) := dk_182 0 236 (dk_at dksX0_suggest_0 2 rfl rfl)
theorem dX0_suggest_5 : decode cX0_suggest 5 = .ok (.ifCond .eq 14, 3) := dk_153 0 14 (dk_at dksX0_suggest_0 5 rfl rfl)
theorem dX0_suggest_8 : decode cX0_suggest 8 = .ok (.aload_n 0, 1) := dk_42 (dk_at dksX0_suggest_0 8 rfl rfl)
theorem dX0_suggest_9 : decode cX0_suggest 9 = .ok (.getfield 71, 3) := dk_180 0 71 (dk_at dksX0_suggest_0 9 rfl rfl)
theorem dX0_suggest_12 : decode cX0_suggest 12 = .ok (.iload_n 1, 1) := dk_27 (dk_at dksX0_suggest_0 12 rfl rfl)
theorem dX0_suggest_13 : decode cX0_suggest 13 = .ok (.invokevirtual 250, 3) := dk_182 0 250 (dk_at dksX0_suggest_0 13 rfl rfl)
theorem dX0_suggest_16 : decode cX0_suggest 16 = .ok (.goto 4, 3) := dk_167 0 4 (dk_at dksX0_suggest_0 16 rfl rfl)
theorem dX0_suggest_19 : decode cX0_suggest 19 = .ok (.iconst (-1), 1) := dk_2 (dk_at dksX0_suggest_0 19 rfl rfl)
theorem dX0_suggest_20 : decode cX0_suggest 20 = .ok (.ireturn, 1) := dk_172 (dk_at dksX0_suggest_0 20 rfl rfl)
abbrev cX0_held : ByteArray := prog_1_method_3_code
def yX0_held : MethodName := ⟨RX0, "held", "(J)J"⟩
def dkwX0_held_0 : List UInt8 := [20, 0, 5, 20, 0, 7, 30, 184, 0, 9, 184, 0, 15, 173]
abbrev dktX0_held_0 : List UInt8 := dkwX0_held_0 ++ []
theorem dksX0_held_0 : cX0_held.data.toList.drop 0 = dktX0_held_0 := by decide +kernel
theorem dX0_held_0 : decode cX0_held 0 = .ok (.ldc2_w 5, 3) := dk_20 0 5 (dk_at dksX0_held_0 0 rfl rfl)
theorem dX0_held_3 : decode cX0_held 3 = .ok (.ldc2_w 7, 3) := dk_20 0 7 (dk_at dksX0_held_0 3 rfl rfl)
theorem dX0_held_6 : decode cX0_held 6 = .ok (.lload_n 0, 1) := dk_30 (dk_at dksX0_held_0 6 rfl rfl)
theorem dX0_held_7 : decode cX0_held 7 = .ok (.invokestatic 9, 3) := dk_184 0 9 (dk_at dksX0_held_0 7 rfl rfl)
theorem dX0_held_10 : decode cX0_held 10 = .ok (.invokestatic 15, 3) := dk_184 0 15 (dk_at dksX0_held_0 10 rfl rfl)
theorem dX0_held_13 : decode cX0_held 13 = .ok (.lreturn, 1) := dk_173 (dk_at dksX0_held_0 13 rfl rfl)
abbrev cX0_looked : ByteArray := prog_1_method_62_code
def yX0_looked : MethodName := ⟨RX0, "looked", "(IJ)J"⟩
def dkwX0_looked_1 : List UInt8 := [180, 1, 93, 182, 0, 189, 180, 0, 193, 32, 136, 46, 133, 167, 0, 4, 9, 173]
abbrev dktX0_looked_1 : List UInt8 := dkwX0_looked_1 ++ []
def dkwX0_looked_0 : List UInt8 := [27, 154, 0, 37, 32, 9, 148, 155, 0, 31, 32, 42, 182, 0, 161, 133, 148, 156, 0, 21, 42, 42]
abbrev dktX0_looked_0 : List UInt8 := dkwX0_looked_0 ++ dktX0_looked_1
theorem dksX0_looked_0 : cX0_looked.data.toList.drop 0 = dktX0_looked_0 := by decide +kernel
theorem dksX0_looked_1 : cX0_looked.data.toList.drop 22 = dktX0_looked_1 := dk_seg dksX0_looked_0 22 rfl rfl
theorem dX0_looked_0 : decode cX0_looked 0 = .ok (.iload_n 1, 1) := dk_27 (dk_at dksX0_looked_0 0 rfl rfl)
theorem dX0_looked_1 : decode cX0_looked 1 = .ok (.ifCond .ne 37, 3) := dk_154 0 37 (dk_at dksX0_looked_0 1 rfl rfl)
theorem dX0_looked_4 : decode cX0_looked 4 = .ok (.lload_n 2, 1) := dk_32 (dk_at dksX0_looked_0 4 rfl rfl)
theorem dX0_looked_5 : decode cX0_looked 5 = .ok (.lconst 0, 1) := dk_9 (dk_at dksX0_looked_0 5 rfl rfl)
theorem dX0_looked_6 : decode cX0_looked 6 = .ok (.lcmp, 1) := dk_148 (dk_at dksX0_looked_0 6 rfl rfl)
theorem dX0_looked_7 : decode cX0_looked 7 = .ok (.ifCond .lt 31, 3) := dk_155 0 31 (dk_at dksX0_looked_0 7 rfl rfl)
theorem dX0_looked_10 : decode cX0_looked 10 = .ok (.lload_n 2, 1) := dk_32 (dk_at dksX0_looked_0 10 rfl rfl)
theorem dX0_looked_11 : decode cX0_looked 11 = .ok (.aload_n 0, 1) := dk_42 (dk_at dksX0_looked_0 11 rfl rfl)
theorem dX0_looked_12 : decode cX0_looked 12 = .ok (.invokevirtual 161, 3) := dk_182 0 161 (dk_at dksX0_looked_0 12 rfl rfl)
theorem dX0_looked_15 : decode cX0_looked 15 = .ok (.i2l, 1) := dk_133 (dk_at dksX0_looked_0 15 rfl rfl)
theorem dX0_looked_16 : decode cX0_looked 16 = .ok (.lcmp, 1) := dk_148 (dk_at dksX0_looked_0 16 rfl rfl)
theorem dX0_looked_17 : decode cX0_looked 17 = .ok (.ifCond .ge 21, 3) := dk_156 0 21 (dk_at dksX0_looked_0 17 rfl rfl)
theorem dX0_looked_20 : decode cX0_looked 20 = .ok (.aload_n 0, 1) := dk_42 (dk_at dksX0_looked_0 20 rfl rfl)
theorem dX0_looked_21 : decode cX0_looked 21 = .ok (.aload_n 0, 1) := dk_42 (dk_at dksX0_looked_0 21 rfl rfl)
theorem dX0_looked_22 : decode cX0_looked 22 = .ok (.getfield 349, 3) := dk_180 1 93 (dk_at dksX0_looked_1 0 rfl rfl)
theorem dX0_looked_25 : decode cX0_looked 25 = .ok (.invokevirtual 189, 3) := dk_182 0 189 (dk_at dksX0_looked_1 3 rfl rfl)
theorem dX0_looked_28 : decode cX0_looked 28 = .ok (.getfield 193, 3) := dk_180 0 193 (dk_at dksX0_looked_1 6 rfl rfl)
theorem dX0_looked_31 : decode cX0_looked 31 = .ok (.lload_n 2, 1) := dk_32 (dk_at dksX0_looked_1 9 rfl rfl)
theorem dX0_looked_32 : decode cX0_looked 32 = .ok (.l2i, 1) := dk_136 (dk_at dksX0_looked_1 10 rfl rfl)
theorem dX0_looked_33 : decode cX0_looked 33 = .ok (.iaload, 1) := dk_46 (dk_at dksX0_looked_1 11 rfl rfl)
theorem dX0_looked_34 : decode cX0_looked 34 = .ok (.i2l, 1) := dk_133 (dk_at dksX0_looked_1 12 rfl rfl)
theorem dX0_looked_35 : decode cX0_looked 35 = .ok (.goto 4, 3) := dk_167 0 4 (dk_at dksX0_looked_1 13 rfl rfl)
theorem dX0_looked_38 : decode cX0_looked 38 = .ok (.lconst 0, 1) := dk_9 (dk_at dksX0_looked_1 16 rfl rfl)
theorem dX0_looked_39 : decode cX0_looked 39 = .ok (.lreturn, 1) := dk_173 (dk_at dksX0_looked_1 17 rfl rfl)
abbrev cX0_worth : ByteArray := prog_1_method_33_code
def yX0_worth : MethodName := ⟨RX0, "worth", "(II)I"⟩
def dkwX0_worth_1 : List UInt8 := [167, 0, 4, 2, 172]
abbrev dktX0_worth_1 : List UInt8 := dkwX0_worth_1 ++ []
def dkwX0_worth_0 : List UInt8 := [42, 27, 182, 0, 236, 153, 0, 20, 42, 28, 182, 0, 226, 153, 0, 12, 42, 27, 28, 182, 0, 253]
abbrev dktX0_worth_0 : List UInt8 := dkwX0_worth_0 ++ dktX0_worth_1
theorem dksX0_worth_0 : cX0_worth.data.toList.drop 0 = dktX0_worth_0 := by decide +kernel
theorem dksX0_worth_1 : cX0_worth.data.toList.drop 22 = dktX0_worth_1 := dk_seg dksX0_worth_0 22 rfl rfl
theorem dX0_worth_0 : decode cX0_worth 0 = .ok (.aload_n 0, 1) := dk_42 (dk_at dksX0_worth_0 0 rfl rfl)
theorem dX0_worth_1 : decode cX0_worth 1 = .ok (.iload_n 1, 1) := dk_27 (dk_at dksX0_worth_0 1 rfl rfl)
theorem dX0_worth_2 : decode cX0_worth 2 = .ok (.invokevirtual 236, 3) := dk_182 0 236 (dk_at dksX0_worth_0 2 rfl rfl)
theorem dX0_worth_5 : decode cX0_worth 5 = .ok (.ifCond .eq 20, 3) := dk_153 0 20 (dk_at dksX0_worth_0 5 rfl rfl)
theorem dX0_worth_8 : decode cX0_worth 8 = .ok (.aload_n 0, 1) := dk_42 (dk_at dksX0_worth_0 8 rfl rfl)
theorem dX0_worth_9 : decode cX0_worth 9 = .ok (.iload_n 2, 1) := dk_28 (dk_at dksX0_worth_0 9 rfl rfl)
theorem dX0_worth_10 : decode cX0_worth 10 = .ok (.invokevirtual 226, 3) := dk_182 0 226 (dk_at dksX0_worth_0 10 rfl rfl)
theorem dX0_worth_13 : decode cX0_worth 13 = .ok (.ifCond .eq 12, 3) := dk_153 0 12 (dk_at dksX0_worth_0 13 rfl rfl)
theorem dX0_worth_16 : decode cX0_worth 16 = .ok (.aload_n 0, 1) := dk_42 (dk_at dksX0_worth_0 16 rfl rfl)
theorem dX0_worth_17 : decode cX0_worth 17 = .ok (.iload_n 1, 1) := dk_27 (dk_at dksX0_worth_0 17 rfl rfl)
theorem dX0_worth_18 : decode cX0_worth 18 = .ok (.iload_n 2, 1) := dk_28 (dk_at dksX0_worth_0 18 rfl rfl)
theorem dX0_worth_19 : decode cX0_worth 19 = .ok (.invokevirtual 253, 3) := dk_182 0 253 (dk_at dksX0_worth_0 19 rfl rfl)
theorem dX0_worth_22 : decode cX0_worth 22 = .ok (.goto 4, 3) := dk_167 0 4 (dk_at dksX0_worth_1 0 rfl rfl)
theorem dX0_worth_25 : decode cX0_worth 25 = .ok (.iconst (-1), 1) := dk_2 (dk_at dksX0_worth_1 3 rfl rfl)
theorem dX0_worth_26 : decode cX0_worth 26 = .ok (.ireturn, 1) := dk_172 (dk_at dksX0_worth_1 4 rfl rfl)
abbrev cX0_worthOf : ByteArray := prog_1_method_24_code
def yX0_worthOf : MethodName := ⟨RX0, "worthOf", "(II)I"⟩
def dkwX0_worthOf_2 : List UInt8 := [172]
abbrev dktX0_worthOf_2 : List UInt8 := dkwX0_worthOf_2 ++ []
def dkwX0_worthOf_1 : List UInt8 := [21, 4, 46, 42, 27, 182, 0, 175, 180, 0, 195, 21, 4, 46, 104, 96, 62, 132, 4, 1, 167, 255, 218, 29]
abbrev dktX0_worthOf_1 : List UInt8 := dkwX0_worthOf_1 ++ dktX0_worthOf_2
def dkwX0_worthOf_0 : List UInt8 := [3, 62, 3, 54, 4, 21, 4, 42, 182, 0, 161, 162, 0, 35, 29, 42, 28, 182, 0, 189, 180, 0, 193]
abbrev dktX0_worthOf_0 : List UInt8 := dkwX0_worthOf_0 ++ dktX0_worthOf_1
theorem dksX0_worthOf_0 : cX0_worthOf.data.toList.drop 0 = dktX0_worthOf_0 := by decide +kernel
theorem dksX0_worthOf_1 : cX0_worthOf.data.toList.drop 23 = dktX0_worthOf_1 := dk_seg dksX0_worthOf_0 23 rfl rfl
theorem dksX0_worthOf_2 : cX0_worthOf.data.toList.drop 47 = dktX0_worthOf_2 := dk_seg dksX0_worthOf_1 24 rfl rfl
theorem dX0_worthOf_0 : decode cX0_worthOf 0 = .ok (.iconst 0, 1) := dk_3 (dk_at dksX0_worthOf_0 0 rfl rfl)
theorem dX0_worthOf_1 : decode cX0_worthOf 1 = .ok (.istore_n 3, 1) := dk_62 (dk_at dksX0_worthOf_0 1 rfl rfl)
theorem dX0_worthOf_2 : decode cX0_worthOf 2 = .ok (.iconst 0, 1) := dk_3 (dk_at dksX0_worthOf_0 2 rfl rfl)
theorem dX0_worthOf_3 : decode cX0_worthOf 3 = .ok (.istore 4, 2) := dk_54 4 (dk_at dksX0_worthOf_0 3 rfl rfl)
theorem dX0_worthOf_5 : decode cX0_worthOf 5 = .ok (.iload 4, 2) := dk_21 4 (dk_at dksX0_worthOf_0 5 rfl rfl)
theorem dX0_worthOf_7 : decode cX0_worthOf 7 = .ok (.aload_n 0, 1) := dk_42 (dk_at dksX0_worthOf_0 7 rfl rfl)
theorem dX0_worthOf_8 : decode cX0_worthOf 8 = .ok (.invokevirtual 161, 3) := dk_182 0 161 (dk_at dksX0_worthOf_0 8 rfl rfl)
theorem dX0_worthOf_11 : decode cX0_worthOf 11 = .ok (.if_icmp .ge 35, 3) := dk_162 0 35 (dk_at dksX0_worthOf_0 11 rfl rfl)
theorem dX0_worthOf_14 : decode cX0_worthOf 14 = .ok (.iload_n 3, 1) := dk_29 (dk_at dksX0_worthOf_0 14 rfl rfl)
theorem dX0_worthOf_15 : decode cX0_worthOf 15 = .ok (.aload_n 0, 1) := dk_42 (dk_at dksX0_worthOf_0 15 rfl rfl)
theorem dX0_worthOf_16 : decode cX0_worthOf 16 = .ok (.iload_n 2, 1) := dk_28 (dk_at dksX0_worthOf_0 16 rfl rfl)
theorem dX0_worthOf_17 : decode cX0_worthOf 17 = .ok (.invokevirtual 189, 3) := dk_182 0 189 (dk_at dksX0_worthOf_0 17 rfl rfl)
theorem dX0_worthOf_20 : decode cX0_worthOf 20 = .ok (.getfield 193, 3) := dk_180 0 193 (dk_at dksX0_worthOf_0 20 rfl rfl)
theorem dX0_worthOf_23 : decode cX0_worthOf 23 = .ok (.iload 4, 2) := dk_21 4 (dk_at dksX0_worthOf_1 0 rfl rfl)
theorem dX0_worthOf_25 : decode cX0_worthOf 25 = .ok (.iaload, 1) := dk_46 (dk_at dksX0_worthOf_1 2 rfl rfl)
theorem dX0_worthOf_26 : decode cX0_worthOf 26 = .ok (.aload_n 0, 1) := dk_42 (dk_at dksX0_worthOf_1 3 rfl rfl)
theorem dX0_worthOf_27 : decode cX0_worthOf 27 = .ok (.iload_n 1, 1) := dk_27 (dk_at dksX0_worthOf_1 4 rfl rfl)
theorem dX0_worthOf_28 : decode cX0_worthOf 28 = .ok (.invokevirtual 175, 3) := dk_182 0 175 (dk_at dksX0_worthOf_1 5 rfl rfl)
theorem dX0_worthOf_31 : decode cX0_worthOf 31 = .ok (.getfield 195, 3) := dk_180 0 195 (dk_at dksX0_worthOf_1 8 rfl rfl)
theorem dX0_worthOf_34 : decode cX0_worthOf 34 = .ok (.iload 4, 2) := dk_21 4 (dk_at dksX0_worthOf_1 11 rfl rfl)
theorem dX0_worthOf_36 : decode cX0_worthOf 36 = .ok (.iaload, 1) := dk_46 (dk_at dksX0_worthOf_1 13 rfl rfl)
theorem dX0_worthOf_37 : decode cX0_worthOf 37 = .ok (.imul, 1) := dk_104 (dk_at dksX0_worthOf_1 14 rfl rfl)
theorem dX0_worthOf_38 : decode cX0_worthOf 38 = .ok (.iadd, 1) := dk_96 (dk_at dksX0_worthOf_1 15 rfl rfl)
theorem dX0_worthOf_39 : decode cX0_worthOf 39 = .ok (.istore_n 3, 1) := dk_62 (dk_at dksX0_worthOf_1 16 rfl rfl)
theorem dX0_worthOf_40 : decode cX0_worthOf 40 = .ok (.iinc 4 1, 3) := dk_132 4 1 (dk_at dksX0_worthOf_1 17 rfl rfl)
theorem dX0_worthOf_43 : decode cX0_worthOf 43 = .ok (.goto (-38), 3) := dk_167 255 218 (dk_at dksX0_worthOf_1 20 rfl rfl)
theorem dX0_worthOf_46 : decode cX0_worthOf 46 = .ok (.iload_n 3, 1) := dk_29 (dk_at dksX0_worthOf_1 23 rfl rfl)
theorem dX0_worthOf_47 : decode cX0_worthOf 47 = .ok (.ireturn, 1) := dk_172 (dk_at dksX0_worthOf_2 0 rfl rfl)
abbrev cX0_kept : ByteArray := prog_1_method_34_code
def yX0_kept : MethodName := ⟨RX0, "kept", "(II)I"⟩
def dkwX0_kept_1 : List UInt8 := [153, 0, 17, 42, 180, 0, 71, 180, 1, 1, 27, 50, 28, 46, 167, 0, 4, 2, 172]
abbrev dktX0_kept_1 : List UInt8 := dkwX0_kept_1 ++ []
def dkwX0_kept_0 : List UInt8 := [27, 3, 42, 180, 0, 71, 180, 0, 215, 4, 100, 184, 0, 185, 153, 0, 26, 28, 3, 6, 184, 0, 185]
abbrev dktX0_kept_0 : List UInt8 := dkwX0_kept_0 ++ dktX0_kept_1
theorem dksX0_kept_0 : cX0_kept.data.toList.drop 0 = dktX0_kept_0 := by decide +kernel
theorem dksX0_kept_1 : cX0_kept.data.toList.drop 23 = dktX0_kept_1 := dk_seg dksX0_kept_0 23 rfl rfl
theorem dX0_kept_0 : decode cX0_kept 0 = .ok (.iload_n 1, 1) := dk_27 (dk_at dksX0_kept_0 0 rfl rfl)
theorem dX0_kept_1 : decode cX0_kept 1 = .ok (.iconst 0, 1) := dk_3 (dk_at dksX0_kept_0 1 rfl rfl)
theorem dX0_kept_2 : decode cX0_kept 2 = .ok (.aload_n 0, 1) := dk_42 (dk_at dksX0_kept_0 2 rfl rfl)
theorem dX0_kept_3 : decode cX0_kept 3 = .ok (.getfield 71, 3) := dk_180 0 71 (dk_at dksX0_kept_0 3 rfl rfl)
theorem dX0_kept_6 : decode cX0_kept 6 = .ok (.getfield 215, 3) := dk_180 0 215 (dk_at dksX0_kept_0 6 rfl rfl)
theorem dX0_kept_9 : decode cX0_kept 9 = .ok (.iconst 1, 1) := dk_4 (dk_at dksX0_kept_0 9 rfl rfl)
theorem dX0_kept_10 : decode cX0_kept 10 = .ok (.isub, 1) := dk_100 (dk_at dksX0_kept_0 10 rfl rfl)
theorem dX0_kept_11 : decode cX0_kept 11 = .ok (.invokestatic 185, 3) := dk_184 0 185 (dk_at dksX0_kept_0 11 rfl rfl)
theorem dX0_kept_14 : decode cX0_kept 14 = .ok (.ifCond .eq 26, 3) := dk_153 0 26 (dk_at dksX0_kept_0 14 rfl rfl)
theorem dX0_kept_17 : decode cX0_kept 17 = .ok (.iload_n 2, 1) := dk_28 (dk_at dksX0_kept_0 17 rfl rfl)
theorem dX0_kept_18 : decode cX0_kept 18 = .ok (.iconst 0, 1) := dk_3 (dk_at dksX0_kept_0 18 rfl rfl)
theorem dX0_kept_19 : decode cX0_kept 19 = .ok (.iconst 3, 1) := dk_6 (dk_at dksX0_kept_0 19 rfl rfl)
theorem dX0_kept_20 : decode cX0_kept 20 = .ok (.invokestatic 185, 3) := dk_184 0 185 (dk_at dksX0_kept_0 20 rfl rfl)
theorem dX0_kept_23 : decode cX0_kept 23 = .ok (.ifCond .eq 17, 3) := dk_153 0 17 (dk_at dksX0_kept_1 0 rfl rfl)
theorem dX0_kept_26 : decode cX0_kept 26 = .ok (.aload_n 0, 1) := dk_42 (dk_at dksX0_kept_1 3 rfl rfl)
theorem dX0_kept_27 : decode cX0_kept 27 = .ok (.getfield 71, 3) := dk_180 0 71 (dk_at dksX0_kept_1 4 rfl rfl)
theorem dX0_kept_30 : decode cX0_kept 30 = .ok (.getfield 257, 3) := dk_180 1 1 (dk_at dksX0_kept_1 7 rfl rfl)
theorem dX0_kept_33 : decode cX0_kept 33 = .ok (.iload_n 1, 1) := dk_27 (dk_at dksX0_kept_1 10 rfl rfl)
theorem dX0_kept_34 : decode cX0_kept 34 = .ok (.aaload, 1) := dk_50 (dk_at dksX0_kept_1 11 rfl rfl)
theorem dX0_kept_35 : decode cX0_kept 35 = .ok (.iload_n 2, 1) := dk_28 (dk_at dksX0_kept_1 12 rfl rfl)
theorem dX0_kept_36 : decode cX0_kept 36 = .ok (.iaload, 1) := dk_46 (dk_at dksX0_kept_1 13 rfl rfl)
theorem dX0_kept_37 : decode cX0_kept 37 = .ok (.goto 4, 3) := dk_167 0 4 (dk_at dksX0_kept_1 14 rfl rfl)
theorem dX0_kept_40 : decode cX0_kept 40 = .ok (.iconst (-1), 1) := dk_2 (dk_at dksX0_kept_1 17 rfl rfl)
theorem dX0_kept_41 : decode cX0_kept 41 = .ok (.ireturn, 1) := dk_172 (dk_at dksX0_kept_1 18 rfl rfl)
abbrev cX0_pleased : ByteArray := prog_1_method_36_code
def yX0_pleased : MethodName := ⟨RX0, "pleased", "(II)J"⟩
def dkwX0_pleased_1 : List UInt8 := [180, 0, 71, 182, 1, 6, 28, 182, 1, 10, 180, 1, 14, 27, 47, 167, 0, 6, 20, 1, 18, 173]
abbrev dktX0_pleased_1 : List UInt8 := dkwX0_pleased_1 ++ []
def dkwX0_pleased_0 : List UInt8 := [42, 27, 182, 0, 236, 153, 0, 37, 42, 28, 3, 16, 72, 182, 1, 3, 153, 0, 26, 42, 180, 0, 75, 42]
abbrev dktX0_pleased_0 : List UInt8 := dkwX0_pleased_0 ++ dktX0_pleased_1
theorem dksX0_pleased_0 : cX0_pleased.data.toList.drop 0 = dktX0_pleased_0 := by decide +kernel
theorem dksX0_pleased_1 : cX0_pleased.data.toList.drop 24 = dktX0_pleased_1 := dk_seg dksX0_pleased_0 24 rfl rfl
theorem dX0_pleased_0 : decode cX0_pleased 0 = .ok (.aload_n 0, 1) := dk_42 (dk_at dksX0_pleased_0 0 rfl rfl)
theorem dX0_pleased_1 : decode cX0_pleased 1 = .ok (.iload_n 1, 1) := dk_27 (dk_at dksX0_pleased_0 1 rfl rfl)
theorem dX0_pleased_2 : decode cX0_pleased 2 = .ok (.invokevirtual 236, 3) := dk_182 0 236 (dk_at dksX0_pleased_0 2 rfl rfl)
theorem dX0_pleased_5 : decode cX0_pleased 5 = .ok (.ifCond .eq 37, 3) := dk_153 0 37 (dk_at dksX0_pleased_0 5 rfl rfl)
theorem dX0_pleased_8 : decode cX0_pleased 8 = .ok (.aload_n 0, 1) := dk_42 (dk_at dksX0_pleased_0 8 rfl rfl)
theorem dX0_pleased_9 : decode cX0_pleased 9 = .ok (.iload_n 2, 1) := dk_28 (dk_at dksX0_pleased_0 9 rfl rfl)
theorem dX0_pleased_10 : decode cX0_pleased 10 = .ok (.iconst 0, 1) := dk_3 (dk_at dksX0_pleased_0 10 rfl rfl)
theorem dX0_pleased_11 : decode cX0_pleased 11 = .ok (.bipush 72, 2) := dk_16 72 (dk_at dksX0_pleased_0 11 rfl rfl)
theorem dX0_pleased_13 : decode cX0_pleased 13 = .ok (.invokevirtual 259, 3) := dk_182 1 3 (dk_at dksX0_pleased_0 13 rfl rfl)
theorem dX0_pleased_16 : decode cX0_pleased 16 = .ok (.ifCond .eq 26, 3) := dk_153 0 26 (dk_at dksX0_pleased_0 16 rfl rfl)
theorem dX0_pleased_19 : decode cX0_pleased 19 = .ok (.aload_n 0, 1) := dk_42 (dk_at dksX0_pleased_0 19 rfl rfl)
theorem dX0_pleased_20 : decode cX0_pleased 20 = .ok (.getfield 75, 3) := dk_180 0 75 (dk_at dksX0_pleased_0 20 rfl rfl)
theorem dX0_pleased_23 : decode cX0_pleased 23 = .ok (.aload_n 0, 1) := dk_42 (dk_at dksX0_pleased_0 23 rfl rfl)
theorem dX0_pleased_24 : decode cX0_pleased 24 = .ok (.getfield 71, 3) := dk_180 0 71 (dk_at dksX0_pleased_1 0 rfl rfl)
theorem dX0_pleased_27 : decode cX0_pleased 27 = .ok (.invokevirtual 262, 3) := dk_182 1 6 (dk_at dksX0_pleased_1 3 rfl rfl)
theorem dX0_pleased_30 : decode cX0_pleased 30 = .ok (.iload_n 2, 1) := dk_28 (dk_at dksX0_pleased_1 6 rfl rfl)
theorem dX0_pleased_31 : decode cX0_pleased 31 = .ok (.invokevirtual 266, 3) := dk_182 1 10 (dk_at dksX0_pleased_1 7 rfl rfl)
theorem dX0_pleased_34 : decode cX0_pleased 34 = .ok (.getfield 270, 3) := dk_180 1 14 (dk_at dksX0_pleased_1 10 rfl rfl)
theorem dX0_pleased_37 : decode cX0_pleased 37 = .ok (.iload_n 1, 1) := dk_27 (dk_at dksX0_pleased_1 13 rfl rfl)
theorem dX0_pleased_38 : decode cX0_pleased 38 = .ok (.laload, 1) := dk_47 (dk_at dksX0_pleased_1 14 rfl rfl)
theorem dX0_pleased_39 : decode cX0_pleased 39 = .ok (.goto 6, 3) := dk_167 0 6 (dk_at dksX0_pleased_1 15 rfl rfl)
theorem dX0_pleased_42 : decode cX0_pleased 42 = .ok (.ldc2_w 274, 3) := dk_20 1 18 (dk_at dksX0_pleased_1 18 rfl rfl)
theorem dX0_pleased_45 : decode cX0_pleased 45 = .ok (.lreturn, 1) := dk_173 (dk_at dksX0_pleased_1 21 rfl rfl)
abbrev cX0_isAhead : ByteArray := prog_1_method_35_code
def yX0_isAhead : MethodName := ⟨RX0, "isAhead", "(III)Z"⟩
def dkwX0_isAhead_1 : List UInt8 := [4, 167, 0, 4, 3, 172]
abbrev dktX0_isAhead_1 : List UInt8 := dkwX0_isAhead_1 ++ []
def dkwX0_isAhead_0 : List UInt8 := [27, 28, 29, 184, 0, 185, 153, 0, 22, 42, 180, 0, 71, 180, 0, 201, 27, 96, 17, 93, 191, 163, 0, 7]
abbrev dktX0_isAhead_0 : List UInt8 := dkwX0_isAhead_0 ++ dktX0_isAhead_1
theorem dksX0_isAhead_0 : cX0_isAhead.data.toList.drop 0 = dktX0_isAhead_0 := by decide +kernel
theorem dksX0_isAhead_1 : cX0_isAhead.data.toList.drop 24 = dktX0_isAhead_1 := dk_seg dksX0_isAhead_0 24 rfl rfl
theorem dX0_isAhead_0 : decode cX0_isAhead 0 = .ok (.iload_n 1, 1) := dk_27 (dk_at dksX0_isAhead_0 0 rfl rfl)
theorem dX0_isAhead_1 : decode cX0_isAhead 1 = .ok (.iload_n 2, 1) := dk_28 (dk_at dksX0_isAhead_0 1 rfl rfl)
theorem dX0_isAhead_2 : decode cX0_isAhead 2 = .ok (.iload_n 3, 1) := dk_29 (dk_at dksX0_isAhead_0 2 rfl rfl)
theorem dX0_isAhead_3 : decode cX0_isAhead 3 = .ok (.invokestatic 185, 3) := dk_184 0 185 (dk_at dksX0_isAhead_0 3 rfl rfl)
theorem dX0_isAhead_6 : decode cX0_isAhead 6 = .ok (.ifCond .eq 22, 3) := dk_153 0 22 (dk_at dksX0_isAhead_0 6 rfl rfl)
theorem dX0_isAhead_9 : decode cX0_isAhead 9 = .ok (.aload_n 0, 1) := dk_42 (dk_at dksX0_isAhead_0 9 rfl rfl)
theorem dX0_isAhead_10 : decode cX0_isAhead 10 = .ok (.getfield 71, 3) := dk_180 0 71 (dk_at dksX0_isAhead_0 10 rfl rfl)
theorem dX0_isAhead_13 : decode cX0_isAhead 13 = .ok (.getfield 201, 3) := dk_180 0 201 (dk_at dksX0_isAhead_0 13 rfl rfl)
theorem dX0_isAhead_16 : decode cX0_isAhead 16 = .ok (.iload_n 1, 1) := dk_27 (dk_at dksX0_isAhead_0 16 rfl rfl)
theorem dX0_isAhead_17 : decode cX0_isAhead 17 = .ok (.iadd, 1) := dk_96 (dk_at dksX0_isAhead_0 17 rfl rfl)
theorem dX0_isAhead_18 : decode cX0_isAhead 18 = .ok (.sipush 23999, 3) := dk_17 93 191 (dk_at dksX0_isAhead_0 18 rfl rfl)
theorem dX0_isAhead_21 : decode cX0_isAhead 21 = .ok (.if_icmp .gt 7, 3) := dk_163 0 7 (dk_at dksX0_isAhead_0 21 rfl rfl)
theorem dX0_isAhead_24 : decode cX0_isAhead 24 = .ok (.iconst 1, 1) := dk_4 (dk_at dksX0_isAhead_1 0 rfl rfl)
theorem dX0_isAhead_25 : decode cX0_isAhead 25 = .ok (.goto 4, 3) := dk_167 0 4 (dk_at dksX0_isAhead_1 1 rfl rfl)
theorem dX0_isAhead_28 : decode cX0_isAhead 28 = .ok (.iconst 0, 1) := dk_3 (dk_at dksX0_isAhead_1 4 rfl rfl)
theorem dX0_isAhead_29 : decode cX0_isAhead 29 = .ok (.ireturn, 1) := dk_172 (dk_at dksX0_isAhead_1 5 rfl rfl)
abbrev cX0_isFree : ByteArray := prog_1_method_23_code
def yX0_isFree : MethodName := ⟨RX0, "isFree", "(II)Z"⟩
def dkwX0_isFree_0 : List UInt8 := [28, 42, 27, 182, 0, 175, 180, 0, 179, 42, 27, 182, 0, 175, 180, 0, 182, 184, 0, 185, 172]
abbrev dktX0_isFree_0 : List UInt8 := dkwX0_isFree_0 ++ []
theorem dksX0_isFree_0 : cX0_isFree.data.toList.drop 0 = dktX0_isFree_0 := by decide +kernel
theorem dX0_isFree_0 : decode cX0_isFree 0 = .ok (.iload_n 2, 1) := dk_28 (dk_at dksX0_isFree_0 0 rfl rfl)
theorem dX0_isFree_1 : decode cX0_isFree 1 = .ok (.aload_n 0, 1) := dk_42 (dk_at dksX0_isFree_0 1 rfl rfl)
theorem dX0_isFree_2 : decode cX0_isFree 2 = .ok (.iload_n 1, 1) := dk_27 (dk_at dksX0_isFree_0 2 rfl rfl)
theorem dX0_isFree_3 : decode cX0_isFree 3 = .ok (.invokevirtual 175, 3) := dk_182 0 175 (dk_at dksX0_isFree_0 3 rfl rfl)
theorem dX0_isFree_6 : decode cX0_isFree 6 = .ok (.getfield 179, 3) := dk_180 0 179 (dk_at dksX0_isFree_0 6 rfl rfl)
theorem dX0_isFree_9 : decode cX0_isFree 9 = .ok (.aload_n 0, 1) := dk_42 (dk_at dksX0_isFree_0 9 rfl rfl)
theorem dX0_isFree_10 : decode cX0_isFree 10 = .ok (.iload_n 1, 1) := dk_27 (dk_at dksX0_isFree_0 10 rfl rfl)
theorem dX0_isFree_11 : decode cX0_isFree 11 = .ok (.invokevirtual 175, 3) := dk_182 0 175 (dk_at dksX0_isFree_0 11 rfl rfl)
theorem dX0_isFree_14 : decode cX0_isFree 14 = .ok (.getfield 182, 3) := dk_180 0 182 (dk_at dksX0_isFree_0 14 rfl rfl)
theorem dX0_isFree_17 : decode cX0_isFree 17 = .ok (.invokestatic 185, 3) := dk_184 0 185 (dk_at dksX0_isFree_0 17 rfl rfl)
theorem dX0_isFree_20 : decode cX0_isFree 20 = .ok (.ireturn, 1) := dk_172 (dk_at dksX0_isFree_0 20 rfl rfl)
abbrev cX0_refused : ByteArray := prog_1_method_37_code
def yX0_refused : MethodName := ⟨RX0, "refused", "(II)I"⟩
def dkwX0_refused_1 : List UInt8 := [180, 0, 71, 182, 1, 6, 28, 182, 1, 10, 180, 1, 20, 27, 46, 167, 0, 4, 2, 172]
abbrev dktX0_refused_1 : List UInt8 := dkwX0_refused_1 ++ []
def dkwX0_refused_0 : List UInt8 := [42, 27, 182, 0, 236, 153, 0, 37, 42, 28, 3, 16, 72, 182, 1, 3, 153, 0, 26, 42, 180, 0, 75, 42]
abbrev dktX0_refused_0 : List UInt8 := dkwX0_refused_0 ++ dktX0_refused_1
theorem dksX0_refused_0 : cX0_refused.data.toList.drop 0 = dktX0_refused_0 := by decide +kernel
theorem dksX0_refused_1 : cX0_refused.data.toList.drop 24 = dktX0_refused_1 := dk_seg dksX0_refused_0 24 rfl rfl
theorem dX0_refused_0 : decode cX0_refused 0 = .ok (.aload_n 0, 1) := dk_42 (dk_at dksX0_refused_0 0 rfl rfl)
theorem dX0_refused_1 : decode cX0_refused 1 = .ok (.iload_n 1, 1) := dk_27 (dk_at dksX0_refused_0 1 rfl rfl)
theorem dX0_refused_2 : decode cX0_refused 2 = .ok (.invokevirtual 236, 3) := dk_182 0 236 (dk_at dksX0_refused_0 2 rfl rfl)
theorem dX0_refused_5 : decode cX0_refused 5 = .ok (.ifCond .eq 37, 3) := dk_153 0 37 (dk_at dksX0_refused_0 5 rfl rfl)
theorem dX0_refused_8 : decode cX0_refused 8 = .ok (.aload_n 0, 1) := dk_42 (dk_at dksX0_refused_0 8 rfl rfl)
theorem dX0_refused_9 : decode cX0_refused 9 = .ok (.iload_n 2, 1) := dk_28 (dk_at dksX0_refused_0 9 rfl rfl)
theorem dX0_refused_10 : decode cX0_refused 10 = .ok (.iconst 0, 1) := dk_3 (dk_at dksX0_refused_0 10 rfl rfl)
theorem dX0_refused_11 : decode cX0_refused 11 = .ok (.bipush 72, 2) := dk_16 72 (dk_at dksX0_refused_0 11 rfl rfl)
theorem dX0_refused_13 : decode cX0_refused 13 = .ok (.invokevirtual 259, 3) := dk_182 1 3 (dk_at dksX0_refused_0 13 rfl rfl)
theorem dX0_refused_16 : decode cX0_refused 16 = .ok (.ifCond .eq 26, 3) := dk_153 0 26 (dk_at dksX0_refused_0 16 rfl rfl)
theorem dX0_refused_19 : decode cX0_refused 19 = .ok (.aload_n 0, 1) := dk_42 (dk_at dksX0_refused_0 19 rfl rfl)
theorem dX0_refused_20 : decode cX0_refused 20 = .ok (.getfield 75, 3) := dk_180 0 75 (dk_at dksX0_refused_0 20 rfl rfl)
theorem dX0_refused_23 : decode cX0_refused 23 = .ok (.aload_n 0, 1) := dk_42 (dk_at dksX0_refused_0 23 rfl rfl)
theorem dX0_refused_24 : decode cX0_refused 24 = .ok (.getfield 71, 3) := dk_180 0 71 (dk_at dksX0_refused_1 0 rfl rfl)
theorem dX0_refused_27 : decode cX0_refused 27 = .ok (.invokevirtual 262, 3) := dk_182 1 6 (dk_at dksX0_refused_1 3 rfl rfl)
theorem dX0_refused_30 : decode cX0_refused 30 = .ok (.iload_n 2, 1) := dk_28 (dk_at dksX0_refused_1 6 rfl rfl)
theorem dX0_refused_31 : decode cX0_refused 31 = .ok (.invokevirtual 266, 3) := dk_182 1 10 (dk_at dksX0_refused_1 7 rfl rfl)
theorem dX0_refused_34 : decode cX0_refused 34 = .ok (.getfield 276, 3) := dk_180 1 20 (dk_at dksX0_refused_1 10 rfl rfl)
theorem dX0_refused_37 : decode cX0_refused 37 = .ok (.iload_n 1, 1) := dk_27 (dk_at dksX0_refused_1 13 rfl rfl)
theorem dX0_refused_38 : decode cX0_refused 38 = .ok (.iaload, 1) := dk_46 (dk_at dksX0_refused_1 14 rfl rfl)
theorem dX0_refused_39 : decode cX0_refused 39 = .ok (.goto 4, 3) := dk_167 0 4 (dk_at dksX0_refused_1 15 rfl rfl)
theorem dX0_refused_42 : decode cX0_refused 42 = .ok (.iconst (-1), 1) := dk_2 (dk_at dksX0_refused_1 18 rfl rfl)
theorem dX0_refused_43 : decode cX0_refused 43 = .ok (.ireturn, 1) := dk_172 (dk_at dksX0_refused_1 19 rfl rfl)
abbrev cX0_pressing : ByteArray := prog_1_method_39_code
def yX0_pressing : MethodName := ⟨RX0, "pressing", "(II)J"⟩
def dkwX0_pressing_2 : List UInt8 := [4, 27, 120, 2, 130, 126, 27, 28, 182, 1, 23, 101, 173]
abbrev dktX0_pressing_2 : List UInt8 := dkwX0_pressing_2 ++ []
def dkwX0_pressing_1 : List UInt8 := [42, 180, 0, 71, 180, 0, 204, 4, 27, 120, 128, 27, 28, 182, 1, 23, 42, 42, 180, 0, 71, 180, 0, 204]
abbrev dktX0_pressing_1 : List UInt8 := dkwX0_pressing_1 ++ dktX0_pressing_2
def dkwX0_pressing_0 : List UInt8 := [42, 27, 182, 0, 236, 153, 0, 14, 42, 28, 3, 16, 72, 182, 1, 3, 154, 0, 7, 20, 1, 18, 173, 42]
abbrev dktX0_pressing_0 : List UInt8 := dkwX0_pressing_0 ++ dktX0_pressing_1
theorem dksX0_pressing_0 : cX0_pressing.data.toList.drop 0 = dktX0_pressing_0 := by decide +kernel
theorem dksX0_pressing_1 : cX0_pressing.data.toList.drop 24 = dktX0_pressing_1 := dk_seg dksX0_pressing_0 24 rfl rfl
theorem dksX0_pressing_2 : cX0_pressing.data.toList.drop 48 = dktX0_pressing_2 := dk_seg dksX0_pressing_1 24 rfl rfl
theorem dX0_pressing_0 : decode cX0_pressing 0 = .ok (.aload_n 0, 1) := dk_42 (dk_at dksX0_pressing_0 0 rfl rfl)
theorem dX0_pressing_1 : decode cX0_pressing 1 = .ok (.iload_n 1, 1) := dk_27 (dk_at dksX0_pressing_0 1 rfl rfl)
theorem dX0_pressing_2 : decode cX0_pressing 2 = .ok (.invokevirtual 236, 3) := dk_182 0 236 (dk_at dksX0_pressing_0 2 rfl rfl)
theorem dX0_pressing_5 : decode cX0_pressing 5 = .ok (.ifCond .eq 14, 3) := dk_153 0 14 (dk_at dksX0_pressing_0 5 rfl rfl)
theorem dX0_pressing_8 : decode cX0_pressing 8 = .ok (.aload_n 0, 1) := dk_42 (dk_at dksX0_pressing_0 8 rfl rfl)
theorem dX0_pressing_9 : decode cX0_pressing 9 = .ok (.iload_n 2, 1) := dk_28 (dk_at dksX0_pressing_0 9 rfl rfl)
theorem dX0_pressing_10 : decode cX0_pressing 10 = .ok (.iconst 0, 1) := dk_3 (dk_at dksX0_pressing_0 10 rfl rfl)
theorem dX0_pressing_11 : decode cX0_pressing 11 = .ok (.bipush 72, 2) := dk_16 72 (dk_at dksX0_pressing_0 11 rfl rfl)
theorem dX0_pressing_13 : decode cX0_pressing 13 = .ok (.invokevirtual 259, 3) := dk_182 1 3 (dk_at dksX0_pressing_0 13 rfl rfl)
theorem dX0_pressing_16 : decode cX0_pressing 16 = .ok (.ifCond .ne 7, 3) := dk_154 0 7 (dk_at dksX0_pressing_0 16 rfl rfl)
theorem dX0_pressing_19 : decode cX0_pressing 19 = .ok (.ldc2_w 274, 3) := dk_20 1 18 (dk_at dksX0_pressing_0 19 rfl rfl)
theorem dX0_pressing_22 : decode cX0_pressing 22 = .ok (.lreturn, 1) := dk_173 (dk_at dksX0_pressing_0 22 rfl rfl)
theorem dX0_pressing_23 : decode cX0_pressing 23 = .ok (.aload_n 0, 1) := dk_42 (dk_at dksX0_pressing_0 23 rfl rfl)
theorem dX0_pressing_24 : decode cX0_pressing 24 = .ok (.aload_n 0, 1) := dk_42 (dk_at dksX0_pressing_1 0 rfl rfl)
theorem dX0_pressing_25 : decode cX0_pressing 25 = .ok (.getfield 71, 3) := dk_180 0 71 (dk_at dksX0_pressing_1 1 rfl rfl)
theorem dX0_pressing_28 : decode cX0_pressing 28 = .ok (.getfield 204, 3) := dk_180 0 204 (dk_at dksX0_pressing_1 4 rfl rfl)
theorem dX0_pressing_31 : decode cX0_pressing 31 = .ok (.iconst 1, 1) := dk_4 (dk_at dksX0_pressing_1 7 rfl rfl)
theorem dX0_pressing_32 : decode cX0_pressing 32 = .ok (.iload_n 1, 1) := dk_27 (dk_at dksX0_pressing_1 8 rfl rfl)
theorem dX0_pressing_33 : decode cX0_pressing 33 = .ok (.ishl, 1) := dk_120 (dk_at dksX0_pressing_1 9 rfl rfl)
theorem dX0_pressing_34 : decode cX0_pressing 34 = .ok (.ior, 1) := dk_128 (dk_at dksX0_pressing_1 10 rfl rfl)
theorem dX0_pressing_35 : decode cX0_pressing 35 = .ok (.iload_n 1, 1) := dk_27 (dk_at dksX0_pressing_1 11 rfl rfl)
theorem dX0_pressing_36 : decode cX0_pressing 36 = .ok (.iload_n 2, 1) := dk_28 (dk_at dksX0_pressing_1 12 rfl rfl)
theorem dX0_pressing_37 : decode cX0_pressing 37 = .ok (.invokevirtual 279, 3) := dk_182 1 23 (dk_at dksX0_pressing_1 13 rfl rfl)
theorem dX0_pressing_40 : decode cX0_pressing 40 = .ok (.aload_n 0, 1) := dk_42 (dk_at dksX0_pressing_1 16 rfl rfl)
theorem dX0_pressing_41 : decode cX0_pressing 41 = .ok (.aload_n 0, 1) := dk_42 (dk_at dksX0_pressing_1 17 rfl rfl)
theorem dX0_pressing_42 : decode cX0_pressing 42 = .ok (.getfield 71, 3) := dk_180 0 71 (dk_at dksX0_pressing_1 18 rfl rfl)
theorem dX0_pressing_45 : decode cX0_pressing 45 = .ok (.getfield 204, 3) := dk_180 0 204 (dk_at dksX0_pressing_1 21 rfl rfl)
theorem dX0_pressing_48 : decode cX0_pressing 48 = .ok (.iconst 1, 1) := dk_4 (dk_at dksX0_pressing_2 0 rfl rfl)
theorem dX0_pressing_49 : decode cX0_pressing 49 = .ok (.iload_n 1, 1) := dk_27 (dk_at dksX0_pressing_2 1 rfl rfl)
theorem dX0_pressing_50 : decode cX0_pressing 50 = .ok (.ishl, 1) := dk_120 (dk_at dksX0_pressing_2 2 rfl rfl)
theorem dX0_pressing_51 : decode cX0_pressing 51 = .ok (.iconst (-1), 1) := dk_2 (dk_at dksX0_pressing_2 3 rfl rfl)
theorem dX0_pressing_52 : decode cX0_pressing 52 = .ok (.ixor, 1) := dk_130 (dk_at dksX0_pressing_2 4 rfl rfl)
theorem dX0_pressing_53 : decode cX0_pressing 53 = .ok (.iand, 1) := dk_126 (dk_at dksX0_pressing_2 5 rfl rfl)
theorem dX0_pressing_54 : decode cX0_pressing 54 = .ok (.iload_n 1, 1) := dk_27 (dk_at dksX0_pressing_2 6 rfl rfl)
theorem dX0_pressing_55 : decode cX0_pressing 55 = .ok (.iload_n 2, 1) := dk_28 (dk_at dksX0_pressing_2 7 rfl rfl)
theorem dX0_pressing_56 : decode cX0_pressing 56 = .ok (.invokevirtual 279, 3) := dk_182 1 23 (dk_at dksX0_pressing_2 8 rfl rfl)
theorem dX0_pressing_59 : decode cX0_pressing 59 = .ok (.lsub, 1) := dk_101 (dk_at dksX0_pressing_2 11 rfl rfl)
theorem dX0_pressing_60 : decode cX0_pressing 60 = .ok (.lreturn, 1) := dk_173 (dk_at dksX0_pressing_2 12 rfl rfl)
abbrev cX0_pleasedBy : ByteArray := prog_1_method_38_code
def yX0_pleasedBy : MethodName := ⟨RX0, "pleasedBy", "(III)J"⟩
def dkwX0_pleasedBy_1 : List UInt8 := [180, 1, 14, 28, 47, 173]
abbrev dktX0_pleasedBy_1 : List UInt8 := dkwX0_pleasedBy_1 ++ []
def dkwX0_pleasedBy_0 : List UInt8 := [42, 180, 0, 75, 42, 180, 0, 71, 182, 1, 6, 27, 181, 0, 204, 42, 180, 0, 75, 29, 182, 1, 10]
abbrev dktX0_pleasedBy_0 : List UInt8 := dkwX0_pleasedBy_0 ++ dktX0_pleasedBy_1
theorem dksX0_pleasedBy_0 : cX0_pleasedBy.data.toList.drop 0 = dktX0_pleasedBy_0 := by decide +kernel
theorem dksX0_pleasedBy_1 : cX0_pleasedBy.data.toList.drop 23 = dktX0_pleasedBy_1 := dk_seg dksX0_pleasedBy_0 23 rfl rfl
theorem dX0_pleasedBy_0 : decode cX0_pleasedBy 0 = .ok (.aload_n 0, 1) := dk_42 (dk_at dksX0_pleasedBy_0 0 rfl rfl)
theorem dX0_pleasedBy_1 : decode cX0_pleasedBy 1 = .ok (.getfield 75, 3) := dk_180 0 75 (dk_at dksX0_pleasedBy_0 1 rfl rfl)
theorem dX0_pleasedBy_4 : decode cX0_pleasedBy 4 = .ok (.aload_n 0, 1) := dk_42 (dk_at dksX0_pleasedBy_0 4 rfl rfl)
theorem dX0_pleasedBy_5 : decode cX0_pleasedBy 5 = .ok (.getfield 71, 3) := dk_180 0 71 (dk_at dksX0_pleasedBy_0 5 rfl rfl)
theorem dX0_pleasedBy_8 : decode cX0_pleasedBy 8 = .ok (.invokevirtual 262, 3) := dk_182 1 6 (dk_at dksX0_pleasedBy_0 8 rfl rfl)
theorem dX0_pleasedBy_11 : decode cX0_pleasedBy 11 = .ok (.iload_n 1, 1) := dk_27 (dk_at dksX0_pleasedBy_0 11 rfl rfl)
theorem dX0_pleasedBy_12 : decode cX0_pleasedBy 12 = .ok (.putfield 204, 3) := dk_181 0 204 (dk_at dksX0_pleasedBy_0 12 rfl rfl)
theorem dX0_pleasedBy_15 : decode cX0_pleasedBy 15 = .ok (.aload_n 0, 1) := dk_42 (dk_at dksX0_pleasedBy_0 15 rfl rfl)
theorem dX0_pleasedBy_16 : decode cX0_pleasedBy 16 = .ok (.getfield 75, 3) := dk_180 0 75 (dk_at dksX0_pleasedBy_0 16 rfl rfl)
theorem dX0_pleasedBy_19 : decode cX0_pleasedBy 19 = .ok (.iload_n 3, 1) := dk_29 (dk_at dksX0_pleasedBy_0 19 rfl rfl)
theorem dX0_pleasedBy_20 : decode cX0_pleasedBy 20 = .ok (.invokevirtual 266, 3) := dk_182 1 10 (dk_at dksX0_pleasedBy_0 20 rfl rfl)
theorem dX0_pleasedBy_23 : decode cX0_pleasedBy 23 = .ok (.getfield 270, 3) := dk_180 1 14 (dk_at dksX0_pleasedBy_1 0 rfl rfl)
theorem dX0_pleasedBy_26 : decode cX0_pleasedBy 26 = .ok (.iload_n 2, 1) := dk_28 (dk_at dksX0_pleasedBy_1 3 rfl rfl)
theorem dX0_pleasedBy_27 : decode cX0_pleasedBy 27 = .ok (.laload, 1) := dk_47 (dk_at dksX0_pleasedBy_1 4 rfl rfl)
theorem dX0_pleasedBy_28 : decode cX0_pleasedBy 28 = .ok (.lreturn, 1) := dk_173 (dk_at dksX0_pleasedBy_1 5 rfl rfl)
abbrev cX0_rest : ByteArray := prog_1_method_41_code
def yX0_rest : MethodName := ⟨RX0, "rest", "(I)I"⟩
def dkwX0_rest_5 : List UInt8 := [162, 0, 13, 42, 29, 182, 1, 27, 153, 0, 5, 29, 61, 132, 3, 1, 167, 255, 217, 28, 172]
abbrev dktX0_rest_5 : List UInt8 := dkwX0_rest_5 ++ []
def dkwX0_rest_4 : List UInt8 := [62, 29, 4, 42, 182, 0, 165, 120, 162, 0, 35, 28, 2, 159, 0, 14, 29, 184, 0, 207, 28, 184, 0, 207]
abbrev dktX0_rest_4 : List UInt8 := dkwX0_rest_4 ++ dktX0_rest_5
def dkwX0_rest_3 : List UInt8 := [42, 180, 0, 75, 180, 1, 14, 21, 4, 47, 80, 132, 4, 1, 167, 255, 225, 132, 3, 1, 167, 255, 182, 3]
abbrev dktX0_rest_3 : List UInt8 := dkwX0_rest_3 ++ dktX0_rest_4
def dkwX0_rest_2 : List UInt8 := [182, 1, 10, 87, 3, 54, 4, 21, 4, 42, 182, 0, 165, 162, 0, 28, 42, 180, 0, 80, 29, 50, 21, 4]
abbrev dktX0_rest_2 : List UInt8 := dkwX0_rest_2 ++ dktX0_rest_3
def dkwX0_rest_1 : List UInt8 := [162, 0, 70, 42, 180, 0, 75, 42, 180, 0, 71, 182, 1, 6, 29, 181, 0, 204, 42, 180, 0, 75, 27]
abbrev dktX0_rest_1 : List UInt8 := dkwX0_rest_1 ++ dktX0_rest_2
def dkwX0_rest_0 : List UInt8 := [42, 27, 3, 16, 48, 182, 1, 3, 154, 0, 5, 2, 172, 2, 61, 3, 62, 29, 4, 42, 182, 0, 165, 120]
abbrev dktX0_rest_0 : List UInt8 := dkwX0_rest_0 ++ dktX0_rest_1
theorem dksX0_rest_0 : cX0_rest.data.toList.drop 0 = dktX0_rest_0 := by decide +kernel
theorem dksX0_rest_1 : cX0_rest.data.toList.drop 24 = dktX0_rest_1 := dk_seg dksX0_rest_0 24 rfl rfl
theorem dksX0_rest_2 : cX0_rest.data.toList.drop 47 = dktX0_rest_2 := dk_seg dksX0_rest_1 23 rfl rfl
theorem dksX0_rest_3 : cX0_rest.data.toList.drop 71 = dktX0_rest_3 := dk_seg dksX0_rest_2 24 rfl rfl
theorem dksX0_rest_4 : cX0_rest.data.toList.drop 95 = dktX0_rest_4 := dk_seg dksX0_rest_3 24 rfl rfl
theorem dksX0_rest_5 : cX0_rest.data.toList.drop 119 = dktX0_rest_5 := dk_seg dksX0_rest_4 24 rfl rfl
theorem dX0_rest_0 : decode cX0_rest 0 = .ok (.aload_n 0, 1) := dk_42 (dk_at dksX0_rest_0 0 rfl rfl)
theorem dX0_rest_1 : decode cX0_rest 1 = .ok (.iload_n 1, 1) := dk_27 (dk_at dksX0_rest_0 1 rfl rfl)
theorem dX0_rest_2 : decode cX0_rest 2 = .ok (.iconst 0, 1) := dk_3 (dk_at dksX0_rest_0 2 rfl rfl)
theorem dX0_rest_3 : decode cX0_rest 3 = .ok (.bipush 48, 2) := dk_16 48 (dk_at dksX0_rest_0 3 rfl rfl)
theorem dX0_rest_5 : decode cX0_rest 5 = .ok (.invokevirtual 259, 3) := dk_182 1 3 (dk_at dksX0_rest_0 5 rfl rfl)
theorem dX0_rest_8 : decode cX0_rest 8 = .ok (.ifCond .ne 5, 3) := dk_154 0 5 (dk_at dksX0_rest_0 8 rfl rfl)
theorem dX0_rest_11 : decode cX0_rest 11 = .ok (.iconst (-1), 1) := dk_2 (dk_at dksX0_rest_0 11 rfl rfl)
theorem dX0_rest_12 : decode cX0_rest 12 = .ok (.ireturn, 1) := dk_172 (dk_at dksX0_rest_0 12 rfl rfl)
theorem dX0_rest_13 : decode cX0_rest 13 = .ok (.iconst (-1), 1) := dk_2 (dk_at dksX0_rest_0 13 rfl rfl)
theorem dX0_rest_14 : decode cX0_rest 14 = .ok (.istore_n 2, 1) := dk_61 (dk_at dksX0_rest_0 14 rfl rfl)
theorem dX0_rest_15 : decode cX0_rest 15 = .ok (.iconst 0, 1) := dk_3 (dk_at dksX0_rest_0 15 rfl rfl)
theorem dX0_rest_16 : decode cX0_rest 16 = .ok (.istore_n 3, 1) := dk_62 (dk_at dksX0_rest_0 16 rfl rfl)
theorem dX0_rest_17 : decode cX0_rest 17 = .ok (.iload_n 3, 1) := dk_29 (dk_at dksX0_rest_0 17 rfl rfl)
theorem dX0_rest_18 : decode cX0_rest 18 = .ok (.iconst 1, 1) := dk_4 (dk_at dksX0_rest_0 18 rfl rfl)
theorem dX0_rest_19 : decode cX0_rest 19 = .ok (.aload_n 0, 1) := dk_42 (dk_at dksX0_rest_0 19 rfl rfl)
theorem dX0_rest_20 : decode cX0_rest 20 = .ok (.invokevirtual 165, 3) := dk_182 0 165 (dk_at dksX0_rest_0 20 rfl rfl)
theorem dX0_rest_23 : decode cX0_rest 23 = .ok (.ishl, 1) := dk_120 (dk_at dksX0_rest_0 23 rfl rfl)
theorem dX0_rest_24 : decode cX0_rest 24 = .ok (.if_icmp .ge 70, 3) := dk_162 0 70 (dk_at dksX0_rest_1 0 rfl rfl)
theorem dX0_rest_27 : decode cX0_rest 27 = .ok (.aload_n 0, 1) := dk_42 (dk_at dksX0_rest_1 3 rfl rfl)
theorem dX0_rest_28 : decode cX0_rest 28 = .ok (.getfield 75, 3) := dk_180 0 75 (dk_at dksX0_rest_1 4 rfl rfl)
theorem dX0_rest_31 : decode cX0_rest 31 = .ok (.aload_n 0, 1) := dk_42 (dk_at dksX0_rest_1 7 rfl rfl)
theorem dX0_rest_32 : decode cX0_rest 32 = .ok (.getfield 71, 3) := dk_180 0 71 (dk_at dksX0_rest_1 8 rfl rfl)
theorem dX0_rest_35 : decode cX0_rest 35 = .ok (.invokevirtual 262, 3) := dk_182 1 6 (dk_at dksX0_rest_1 11 rfl rfl)
theorem dX0_rest_38 : decode cX0_rest 38 = .ok (.iload_n 3, 1) := dk_29 (dk_at dksX0_rest_1 14 rfl rfl)
theorem dX0_rest_39 : decode cX0_rest 39 = .ok (.putfield 204, 3) := dk_181 0 204 (dk_at dksX0_rest_1 15 rfl rfl)
theorem dX0_rest_42 : decode cX0_rest 42 = .ok (.aload_n 0, 1) := dk_42 (dk_at dksX0_rest_1 18 rfl rfl)
theorem dX0_rest_43 : decode cX0_rest 43 = .ok (.getfield 75, 3) := dk_180 0 75 (dk_at dksX0_rest_1 19 rfl rfl)
theorem dX0_rest_46 : decode cX0_rest 46 = .ok (.iload_n 1, 1) := dk_27 (dk_at dksX0_rest_1 22 rfl rfl)
theorem dX0_rest_47 : decode cX0_rest 47 = .ok (.invokevirtual 266, 3) := dk_182 1 10 (dk_at dksX0_rest_2 0 rfl rfl)
theorem dX0_rest_50 : decode cX0_rest 50 = .ok (.pop, 1) := dk_87 (dk_at dksX0_rest_2 3 rfl rfl)
theorem dX0_rest_51 : decode cX0_rest 51 = .ok (.iconst 0, 1) := dk_3 (dk_at dksX0_rest_2 4 rfl rfl)
theorem dX0_rest_52 : decode cX0_rest 52 = .ok (.istore 4, 2) := dk_54 4 (dk_at dksX0_rest_2 5 rfl rfl)
theorem dX0_rest_54 : decode cX0_rest 54 = .ok (.iload 4, 2) := dk_21 4 (dk_at dksX0_rest_2 7 rfl rfl)
theorem dX0_rest_56 : decode cX0_rest 56 = .ok (.aload_n 0, 1) := dk_42 (dk_at dksX0_rest_2 9 rfl rfl)
theorem dX0_rest_57 : decode cX0_rest 57 = .ok (.invokevirtual 165, 3) := dk_182 0 165 (dk_at dksX0_rest_2 10 rfl rfl)
theorem dX0_rest_60 : decode cX0_rest 60 = .ok (.if_icmp .ge 28, 3) := dk_162 0 28 (dk_at dksX0_rest_2 13 rfl rfl)
theorem dX0_rest_63 : decode cX0_rest 63 = .ok (.aload_n 0, 1) := dk_42 (dk_at dksX0_rest_2 16 rfl rfl)
theorem dX0_rest_64 : decode cX0_rest 64 = .ok (.getfield 80, 3) := dk_180 0 80 (dk_at dksX0_rest_2 17 rfl rfl)
theorem dX0_rest_67 : decode cX0_rest 67 = .ok (.iload_n 3, 1) := dk_29 (dk_at dksX0_rest_2 20 rfl rfl)
theorem dX0_rest_68 : decode cX0_rest 68 = .ok (.aaload, 1) := dk_50 (dk_at dksX0_rest_2 21 rfl rfl)
theorem dX0_rest_69 : decode cX0_rest 69 = .ok (.iload 4, 2) := dk_21 4 (dk_at dksX0_rest_2 22 rfl rfl)
theorem dX0_rest_71 : decode cX0_rest 71 = .ok (.aload_n 0, 1) := dk_42 (dk_at dksX0_rest_3 0 rfl rfl)
theorem dX0_rest_72 : decode cX0_rest 72 = .ok (.getfield 75, 3) := dk_180 0 75 (dk_at dksX0_rest_3 1 rfl rfl)
theorem dX0_rest_75 : decode cX0_rest 75 = .ok (.getfield 270, 3) := dk_180 1 14 (dk_at dksX0_rest_3 4 rfl rfl)
theorem dX0_rest_78 : decode cX0_rest 78 = .ok (.iload 4, 2) := dk_21 4 (dk_at dksX0_rest_3 7 rfl rfl)
theorem dX0_rest_80 : decode cX0_rest 80 = .ok (.laload, 1) := dk_47 (dk_at dksX0_rest_3 9 rfl rfl)
theorem dX0_rest_81 : decode cX0_rest 81 = .ok (.lastore, 1) := dk_80 (dk_at dksX0_rest_3 10 rfl rfl)
theorem dX0_rest_82 : decode cX0_rest 82 = .ok (.iinc 4 1, 3) := dk_132 4 1 (dk_at dksX0_rest_3 11 rfl rfl)
theorem dX0_rest_85 : decode cX0_rest 85 = .ok (.goto (-31), 3) := dk_167 255 225 (dk_at dksX0_rest_3 14 rfl rfl)
theorem dX0_rest_88 : decode cX0_rest 88 = .ok (.iinc 3 1, 3) := dk_132 3 1 (dk_at dksX0_rest_3 17 rfl rfl)
theorem dX0_rest_91 : decode cX0_rest 91 = .ok (.goto (-74), 3) := dk_167 255 182 (dk_at dksX0_rest_3 20 rfl rfl)
theorem dX0_rest_94 : decode cX0_rest 94 = .ok (.iconst 0, 1) := dk_3 (dk_at dksX0_rest_3 23 rfl rfl)
theorem dX0_rest_95 : decode cX0_rest 95 = .ok (.istore_n 3, 1) := dk_62 (dk_at dksX0_rest_4 0 rfl rfl)
theorem dX0_rest_96 : decode cX0_rest 96 = .ok (.iload_n 3, 1) := dk_29 (dk_at dksX0_rest_4 1 rfl rfl)
theorem dX0_rest_97 : decode cX0_rest 97 = .ok (.iconst 1, 1) := dk_4 (dk_at dksX0_rest_4 2 rfl rfl)
theorem dX0_rest_98 : decode cX0_rest 98 = .ok (.aload_n 0, 1) := dk_42 (dk_at dksX0_rest_4 3 rfl rfl)
theorem dX0_rest_99 : decode cX0_rest 99 = .ok (.invokevirtual 165, 3) := dk_182 0 165 (dk_at dksX0_rest_4 4 rfl rfl)
theorem dX0_rest_102 : decode cX0_rest 102 = .ok (.ishl, 1) := dk_120 (dk_at dksX0_rest_4 7 rfl rfl)
theorem dX0_rest_103 : decode cX0_rest 103 = .ok (.if_icmp .ge 35, 3) := dk_162 0 35 (dk_at dksX0_rest_4 8 rfl rfl)
theorem dX0_rest_106 : decode cX0_rest 106 = .ok (.iload_n 2, 1) := dk_28 (dk_at dksX0_rest_4 11 rfl rfl)
theorem dX0_rest_107 : decode cX0_rest 107 = .ok (.iconst (-1), 1) := dk_2 (dk_at dksX0_rest_4 12 rfl rfl)
theorem dX0_rest_108 : decode cX0_rest 108 = .ok (.if_icmp .eq 14, 3) := dk_159 0 14 (dk_at dksX0_rest_4 13 rfl rfl)
theorem dX0_rest_111 : decode cX0_rest 111 = .ok (.iload_n 3, 1) := dk_29 (dk_at dksX0_rest_4 16 rfl rfl)
theorem dX0_rest_112 : decode cX0_rest 112 = .ok (.invokestatic 207, 3) := dk_184 0 207 (dk_at dksX0_rest_4 17 rfl rfl)
theorem dX0_rest_115 : decode cX0_rest 115 = .ok (.iload_n 2, 1) := dk_28 (dk_at dksX0_rest_4 20 rfl rfl)
theorem dX0_rest_116 : decode cX0_rest 116 = .ok (.invokestatic 207, 3) := dk_184 0 207 (dk_at dksX0_rest_4 21 rfl rfl)
theorem dX0_rest_119 : decode cX0_rest 119 = .ok (.if_icmp .ge 13, 3) := dk_162 0 13 (dk_at dksX0_rest_5 0 rfl rfl)
theorem dX0_rest_122 : decode cX0_rest 122 = .ok (.aload_n 0, 1) := dk_42 (dk_at dksX0_rest_5 3 rfl rfl)
theorem dX0_rest_123 : decode cX0_rest 123 = .ok (.iload_n 3, 1) := dk_29 (dk_at dksX0_rest_5 4 rfl rfl)
theorem dX0_rest_124 : decode cX0_rest 124 = .ok (.invokevirtual 283, 3) := dk_182 1 27 (dk_at dksX0_rest_5 5 rfl rfl)
theorem dX0_rest_127 : decode cX0_rest 127 = .ok (.ifCond .eq 5, 3) := dk_153 0 5 (dk_at dksX0_rest_5 8 rfl rfl)
theorem dX0_rest_130 : decode cX0_rest 130 = .ok (.iload_n 3, 1) := dk_29 (dk_at dksX0_rest_5 11 rfl rfl)
theorem dX0_rest_131 : decode cX0_rest 131 = .ok (.istore_n 2, 1) := dk_61 (dk_at dksX0_rest_5 12 rfl rfl)
theorem dX0_rest_132 : decode cX0_rest 132 = .ok (.iinc 3 1, 3) := dk_132 3 1 (dk_at dksX0_rest_5 13 rfl rfl)
theorem dX0_rest_135 : decode cX0_rest 135 = .ok (.goto (-39), 3) := dk_167 255 217 (dk_at dksX0_rest_5 16 rfl rfl)
theorem dX0_rest_138 : decode cX0_rest 138 = .ok (.iload_n 2, 1) := dk_28 (dk_at dksX0_rest_5 19 rfl rfl)
theorem dX0_rest_139 : decode cX0_rest 139 = .ok (.ireturn, 1) := dk_172 (dk_at dksX0_rest_5 20 rfl rfl)
abbrev cX0_isRest : ByteArray := prog_1_method_40_code
def yX0_isRest : MethodName := ⟨RX0, "isRest", "(I)Z"⟩
def dkwX0_isRest_1 : List UInt8 := [180, 0, 80, 27, 50, 28, 47, 148, 158, 0, 5, 3, 172, 132, 2, 1, 167, 255, 219, 4, 172]
abbrev dktX0_isRest_1 : List UInt8 := dkwX0_isRest_1 ++ []
def dkwX0_isRest_0 : List UInt8 := [3, 61, 28, 42, 182, 0, 165, 162, 0, 35, 42, 180, 0, 80, 27, 4, 28, 120, 130, 50, 28, 47, 42]
abbrev dktX0_isRest_0 : List UInt8 := dkwX0_isRest_0 ++ dktX0_isRest_1
theorem dksX0_isRest_0 : cX0_isRest.data.toList.drop 0 = dktX0_isRest_0 := by decide +kernel
theorem dksX0_isRest_1 : cX0_isRest.data.toList.drop 23 = dktX0_isRest_1 := dk_seg dksX0_isRest_0 23 rfl rfl
theorem dX0_isRest_0 : decode cX0_isRest 0 = .ok (.iconst 0, 1) := dk_3 (dk_at dksX0_isRest_0 0 rfl rfl)
theorem dX0_isRest_1 : decode cX0_isRest 1 = .ok (.istore_n 2, 1) := dk_61 (dk_at dksX0_isRest_0 1 rfl rfl)
theorem dX0_isRest_2 : decode cX0_isRest 2 = .ok (.iload_n 2, 1) := dk_28 (dk_at dksX0_isRest_0 2 rfl rfl)
theorem dX0_isRest_3 : decode cX0_isRest 3 = .ok (.aload_n 0, 1) := dk_42 (dk_at dksX0_isRest_0 3 rfl rfl)
theorem dX0_isRest_4 : decode cX0_isRest 4 = .ok (.invokevirtual 165, 3) := dk_182 0 165 (dk_at dksX0_isRest_0 4 rfl rfl)
theorem dX0_isRest_7 : decode cX0_isRest 7 = .ok (.if_icmp .ge 35, 3) := dk_162 0 35 (dk_at dksX0_isRest_0 7 rfl rfl)
theorem dX0_isRest_10 : decode cX0_isRest 10 = .ok (.aload_n 0, 1) := dk_42 (dk_at dksX0_isRest_0 10 rfl rfl)
theorem dX0_isRest_11 : decode cX0_isRest 11 = .ok (.getfield 80, 3) := dk_180 0 80 (dk_at dksX0_isRest_0 11 rfl rfl)
theorem dX0_isRest_14 : decode cX0_isRest 14 = .ok (.iload_n 1, 1) := dk_27 (dk_at dksX0_isRest_0 14 rfl rfl)
theorem dX0_isRest_15 : decode cX0_isRest 15 = .ok (.iconst 1, 1) := dk_4 (dk_at dksX0_isRest_0 15 rfl rfl)
theorem dX0_isRest_16 : decode cX0_isRest 16 = .ok (.iload_n 2, 1) := dk_28 (dk_at dksX0_isRest_0 16 rfl rfl)
theorem dX0_isRest_17 : decode cX0_isRest 17 = .ok (.ishl, 1) := dk_120 (dk_at dksX0_isRest_0 17 rfl rfl)
theorem dX0_isRest_18 : decode cX0_isRest 18 = .ok (.ixor, 1) := dk_130 (dk_at dksX0_isRest_0 18 rfl rfl)
theorem dX0_isRest_19 : decode cX0_isRest 19 = .ok (.aaload, 1) := dk_50 (dk_at dksX0_isRest_0 19 rfl rfl)
theorem dX0_isRest_20 : decode cX0_isRest 20 = .ok (.iload_n 2, 1) := dk_28 (dk_at dksX0_isRest_0 20 rfl rfl)
theorem dX0_isRest_21 : decode cX0_isRest 21 = .ok (.laload, 1) := dk_47 (dk_at dksX0_isRest_0 21 rfl rfl)
theorem dX0_isRest_22 : decode cX0_isRest 22 = .ok (.aload_n 0, 1) := dk_42 (dk_at dksX0_isRest_0 22 rfl rfl)
theorem dX0_isRest_23 : decode cX0_isRest 23 = .ok (.getfield 80, 3) := dk_180 0 80 (dk_at dksX0_isRest_1 0 rfl rfl)
theorem dX0_isRest_26 : decode cX0_isRest 26 = .ok (.iload_n 1, 1) := dk_27 (dk_at dksX0_isRest_1 3 rfl rfl)
theorem dX0_isRest_27 : decode cX0_isRest 27 = .ok (.aaload, 1) := dk_50 (dk_at dksX0_isRest_1 4 rfl rfl)
theorem dX0_isRest_28 : decode cX0_isRest 28 = .ok (.iload_n 2, 1) := dk_28 (dk_at dksX0_isRest_1 5 rfl rfl)
theorem dX0_isRest_29 : decode cX0_isRest 29 = .ok (.laload, 1) := dk_47 (dk_at dksX0_isRest_1 6 rfl rfl)
theorem dX0_isRest_30 : decode cX0_isRest 30 = .ok (.lcmp, 1) := dk_148 (dk_at dksX0_isRest_1 7 rfl rfl)
theorem dX0_isRest_31 : decode cX0_isRest 31 = .ok (.ifCond .le 5, 3) := dk_158 0 5 (dk_at dksX0_isRest_1 8 rfl rfl)
theorem dX0_isRest_34 : decode cX0_isRest 34 = .ok (.iconst 0, 1) := dk_3 (dk_at dksX0_isRest_1 11 rfl rfl)
theorem dX0_isRest_35 : decode cX0_isRest 35 = .ok (.ireturn, 1) := dk_172 (dk_at dksX0_isRest_1 12 rfl rfl)
theorem dX0_isRest_36 : decode cX0_isRest 36 = .ok (.iinc 2 1, 3) := dk_132 2 1 (dk_at dksX0_isRest_1 13 rfl rfl)
theorem dX0_isRest_39 : decode cX0_isRest 39 = .ok (.goto (-37), 3) := dk_167 255 219 (dk_at dksX0_isRest_1 16 rfl rfl)
theorem dX0_isRest_42 : decode cX0_isRest 42 = .ok (.iconst 1, 1) := dk_4 (dk_at dksX0_isRest_1 19 rfl rfl)
theorem dX0_isRest_43 : decode cX0_isRest 43 = .ok (.ireturn, 1) := dk_172 (dk_at dksX0_isRest_1 20 rfl rfl)
abbrev cX0_gone : ByteArray := prog_1_method_42_code
def yX0_gone : MethodName := ⟨RX0, "gone", "(II)I"⟩
def dkwX0_gone_3 : List UInt8 := [182, 1, 33, 87, 132, 3, 1, 167, 255, 211, 2, 172]
abbrev dktX0_gone_3 : List UInt8 := dkwX0_gone_3 ++ []
def dkwX0_gone_2 : List UInt8 := [180, 0, 243, 42, 180, 0, 75, 27, 182, 1, 30, 50, 28, 46, 154, 0, 5, 29, 172, 42, 180, 0, 75]
abbrev dktX0_gone_2 : List UInt8 := dkwX0_gone_2 ++ dktX0_gone_3
def dkwX0_gone_1 : List UInt8 := [180, 0, 71, 182, 1, 6, 87, 3, 62, 42, 29, 3, 16, 72, 182, 1, 3, 153, 0, 40, 42, 180, 0, 75]
abbrev dktX0_gone_1 : List UInt8 := dkwX0_gone_1 ++ dktX0_gone_2
def dkwX0_gone_0 : List UInt8 := [42, 27, 182, 0, 236, 153, 0, 11, 42, 28, 182, 0, 233, 154, 0, 5, 2, 172, 42, 180, 0, 75, 42]
abbrev dktX0_gone_0 : List UInt8 := dkwX0_gone_0 ++ dktX0_gone_1
theorem dksX0_gone_0 : cX0_gone.data.toList.drop 0 = dktX0_gone_0 := by decide +kernel
theorem dksX0_gone_1 : cX0_gone.data.toList.drop 23 = dktX0_gone_1 := dk_seg dksX0_gone_0 23 rfl rfl
theorem dksX0_gone_2 : cX0_gone.data.toList.drop 47 = dktX0_gone_2 := dk_seg dksX0_gone_1 24 rfl rfl
theorem dksX0_gone_3 : cX0_gone.data.toList.drop 70 = dktX0_gone_3 := dk_seg dksX0_gone_2 23 rfl rfl
theorem dX0_gone_0 : decode cX0_gone 0 = .ok (.aload_n 0, 1) := dk_42 (dk_at dksX0_gone_0 0 rfl rfl)
theorem dX0_gone_1 : decode cX0_gone 1 = .ok (.iload_n 1, 1) := dk_27 (dk_at dksX0_gone_0 1 rfl rfl)
theorem dX0_gone_2 : decode cX0_gone 2 = .ok (.invokevirtual 236, 3) := dk_182 0 236 (dk_at dksX0_gone_0 2 rfl rfl)
theorem dX0_gone_5 : decode cX0_gone 5 = .ok (.ifCond .eq 11, 3) := dk_153 0 11 (dk_at dksX0_gone_0 5 rfl rfl)
theorem dX0_gone_8 : decode cX0_gone 8 = .ok (.aload_n 0, 1) := dk_42 (dk_at dksX0_gone_0 8 rfl rfl)
theorem dX0_gone_9 : decode cX0_gone 9 = .ok (.iload_n 2, 1) := dk_28 (dk_at dksX0_gone_0 9 rfl rfl)
theorem dX0_gone_10 : decode cX0_gone 10 = .ok (.invokevirtual 233, 3) := dk_182 0 233 (dk_at dksX0_gone_0 10 rfl rfl)
theorem dX0_gone_13 : decode cX0_gone 13 = .ok (.ifCond .ne 5, 3) := dk_154 0 5 (dk_at dksX0_gone_0 13 rfl rfl)
theorem dX0_gone_16 : decode cX0_gone 16 = .ok (.iconst (-1), 1) := dk_2 (dk_at dksX0_gone_0 16 rfl rfl)
theorem dX0_gone_17 : decode cX0_gone 17 = .ok (.ireturn, 1) := dk_172 (dk_at dksX0_gone_0 17 rfl rfl)
theorem dX0_gone_18 : decode cX0_gone 18 = .ok (.aload_n 0, 1) := dk_42 (dk_at dksX0_gone_0 18 rfl rfl)
theorem dX0_gone_19 : decode cX0_gone 19 = .ok (.getfield 75, 3) := dk_180 0 75 (dk_at dksX0_gone_0 19 rfl rfl)
theorem dX0_gone_22 : decode cX0_gone 22 = .ok (.aload_n 0, 1) := dk_42 (dk_at dksX0_gone_0 22 rfl rfl)
theorem dX0_gone_23 : decode cX0_gone 23 = .ok (.getfield 71, 3) := dk_180 0 71 (dk_at dksX0_gone_1 0 rfl rfl)
theorem dX0_gone_26 : decode cX0_gone 26 = .ok (.invokevirtual 262, 3) := dk_182 1 6 (dk_at dksX0_gone_1 3 rfl rfl)
theorem dX0_gone_29 : decode cX0_gone 29 = .ok (.pop, 1) := dk_87 (dk_at dksX0_gone_1 6 rfl rfl)
theorem dX0_gone_30 : decode cX0_gone 30 = .ok (.iconst 0, 1) := dk_3 (dk_at dksX0_gone_1 7 rfl rfl)
theorem dX0_gone_31 : decode cX0_gone 31 = .ok (.istore_n 3, 1) := dk_62 (dk_at dksX0_gone_1 8 rfl rfl)
theorem dX0_gone_32 : decode cX0_gone 32 = .ok (.aload_n 0, 1) := dk_42 (dk_at dksX0_gone_1 9 rfl rfl)
theorem dX0_gone_33 : decode cX0_gone 33 = .ok (.iload_n 3, 1) := dk_29 (dk_at dksX0_gone_1 10 rfl rfl)
theorem dX0_gone_34 : decode cX0_gone 34 = .ok (.iconst 0, 1) := dk_3 (dk_at dksX0_gone_1 11 rfl rfl)
theorem dX0_gone_35 : decode cX0_gone 35 = .ok (.bipush 72, 2) := dk_16 72 (dk_at dksX0_gone_1 12 rfl rfl)
theorem dX0_gone_37 : decode cX0_gone 37 = .ok (.invokevirtual 259, 3) := dk_182 1 3 (dk_at dksX0_gone_1 14 rfl rfl)
theorem dX0_gone_40 : decode cX0_gone 40 = .ok (.ifCond .eq 40, 3) := dk_153 0 40 (dk_at dksX0_gone_1 17 rfl rfl)
theorem dX0_gone_43 : decode cX0_gone 43 = .ok (.aload_n 0, 1) := dk_42 (dk_at dksX0_gone_1 20 rfl rfl)
theorem dX0_gone_44 : decode cX0_gone 44 = .ok (.getfield 75, 3) := dk_180 0 75 (dk_at dksX0_gone_1 21 rfl rfl)
theorem dX0_gone_47 : decode cX0_gone 47 = .ok (.getfield 243, 3) := dk_180 0 243 (dk_at dksX0_gone_2 0 rfl rfl)
theorem dX0_gone_50 : decode cX0_gone 50 = .ok (.aload_n 0, 1) := dk_42 (dk_at dksX0_gone_2 3 rfl rfl)
theorem dX0_gone_51 : decode cX0_gone 51 = .ok (.getfield 75, 3) := dk_180 0 75 (dk_at dksX0_gone_2 4 rfl rfl)
theorem dX0_gone_54 : decode cX0_gone 54 = .ok (.iload_n 1, 1) := dk_27 (dk_at dksX0_gone_2 7 rfl rfl)
theorem dX0_gone_55 : decode cX0_gone 55 = .ok (.invokevirtual 286, 3) := dk_182 1 30 (dk_at dksX0_gone_2 8 rfl rfl)
theorem dX0_gone_58 : decode cX0_gone 58 = .ok (.aaload, 1) := dk_50 (dk_at dksX0_gone_2 11 rfl rfl)
theorem dX0_gone_59 : decode cX0_gone 59 = .ok (.iload_n 2, 1) := dk_28 (dk_at dksX0_gone_2 12 rfl rfl)
theorem dX0_gone_60 : decode cX0_gone 60 = .ok (.iaload, 1) := dk_46 (dk_at dksX0_gone_2 13 rfl rfl)
theorem dX0_gone_61 : decode cX0_gone 61 = .ok (.ifCond .ne 5, 3) := dk_154 0 5 (dk_at dksX0_gone_2 14 rfl rfl)
theorem dX0_gone_64 : decode cX0_gone 64 = .ok (.iload_n 3, 1) := dk_29 (dk_at dksX0_gone_2 17 rfl rfl)
theorem dX0_gone_65 : decode cX0_gone 65 = .ok (.ireturn, 1) := dk_172 (dk_at dksX0_gone_2 18 rfl rfl)
theorem dX0_gone_66 : decode cX0_gone 66 = .ok (.aload_n 0, 1) := dk_42 (dk_at dksX0_gone_2 19 rfl rfl)
theorem dX0_gone_67 : decode cX0_gone 67 = .ok (.getfield 75, 3) := dk_180 0 75 (dk_at dksX0_gone_2 20 rfl rfl)
theorem dX0_gone_70 : decode cX0_gone 70 = .ok (.invokevirtual 289, 3) := dk_182 1 33 (dk_at dksX0_gone_3 0 rfl rfl)
theorem dX0_gone_73 : decode cX0_gone 73 = .ok (.pop, 1) := dk_87 (dk_at dksX0_gone_3 3 rfl rfl)
theorem dX0_gone_74 : decode cX0_gone 74 = .ok (.iinc 3 1, 3) := dk_132 3 1 (dk_at dksX0_gone_3 4 rfl rfl)
theorem dX0_gone_77 : decode cX0_gone 77 = .ok (.goto (-45), 3) := dk_167 255 211 (dk_at dksX0_gone_3 7 rfl rfl)
theorem dX0_gone_80 : decode cX0_gone 80 = .ok (.iconst (-1), 1) := dk_2 (dk_at dksX0_gone_3 10 rfl rfl)
theorem dX0_gone_81 : decode cX0_gone 81 = .ok (.ireturn, 1) := dk_172 (dk_at dksX0_gone_3 11 rfl rfl)
abbrev cX0_sow : ByteArray := prog_1_method_43_code
def yX0_sow : MethodName := ⟨RX0, "sow", "(II)I"⟩
def dkwX0_sow_6 : List UInt8 := [167, 255, 147, 29, 172]
abbrev dktX0_sow_6 : List UInt8 := dkwX0_sow_6 ++ []
def dkwX0_sow_5 : List UInt8 := [157, 0, 6, 167, 0, 17, 42, 180, 0, 75, 180, 1, 14, 27, 47, 55, 4, 21, 6, 62, 132, 6, 1]
abbrev dktX0_sow_5 : List UInt8 := dkwX0_sow_5 ++ dktX0_sow_6
def dkwX0_sow_4 : List UInt8 := [27, 9, 80, 42, 180, 0, 75, 28, 182, 1, 10, 87, 42, 180, 0, 75, 180, 1, 14, 27, 47, 22, 4, 148]
abbrev dktX0_sow_4 : List UInt8 := dkwX0_sow_4 ++ dktX0_sow_5
def dkwX0_sow_3 : List UInt8 := [153, 0, 6, 167, 0, 65, 42, 180, 0, 75, 27, 21, 6, 182, 1, 41, 87, 42, 180, 0, 75, 180, 1, 14]
abbrev dktX0_sow_3 : List UInt8 := dkwX0_sow_3 ++ dktX0_sow_4
def dkwX0_sow_2 : List UInt8 := [180, 0, 71, 182, 1, 6, 87, 42, 180, 0, 75, 42, 180, 0, 75, 27, 182, 1, 30, 21, 6, 182, 1, 38]
abbrev dktX0_sow_2 : List UInt8 := dkwX0_sow_2 ++ dktX0_sow_3
def dkwX0_sow_1 : List UInt8 := [20, 1, 36, 55, 4, 3, 54, 6, 21, 6, 42, 182, 0, 163, 162, 0, 106, 42, 180, 0, 75, 42]
abbrev dktX0_sow_1 : List UInt8 := dkwX0_sow_1 ++ dktX0_sow_2
def dkwX0_sow_0 : List UInt8 := [42, 27, 182, 0, 236, 153, 0, 14, 42, 28, 3, 16, 72, 182, 1, 3, 154, 0, 5, 2, 172, 2, 62]
abbrev dktX0_sow_0 : List UInt8 := dkwX0_sow_0 ++ dktX0_sow_1
theorem dksX0_sow_0 : cX0_sow.data.toList.drop 0 = dktX0_sow_0 := by decide +kernel
theorem dksX0_sow_1 : cX0_sow.data.toList.drop 23 = dktX0_sow_1 := dk_seg dksX0_sow_0 23 rfl rfl
theorem dksX0_sow_2 : cX0_sow.data.toList.drop 45 = dktX0_sow_2 := dk_seg dksX0_sow_1 22 rfl rfl
theorem dksX0_sow_3 : cX0_sow.data.toList.drop 69 = dktX0_sow_3 := dk_seg dksX0_sow_2 24 rfl rfl
theorem dksX0_sow_4 : cX0_sow.data.toList.drop 93 = dktX0_sow_4 := dk_seg dksX0_sow_3 24 rfl rfl
theorem dksX0_sow_5 : cX0_sow.data.toList.drop 117 = dktX0_sow_5 := dk_seg dksX0_sow_4 24 rfl rfl
theorem dksX0_sow_6 : cX0_sow.data.toList.drop 140 = dktX0_sow_6 := dk_seg dksX0_sow_5 23 rfl rfl
theorem dX0_sow_0 : decode cX0_sow 0 = .ok (.aload_n 0, 1) := dk_42 (dk_at dksX0_sow_0 0 rfl rfl)
theorem dX0_sow_1 : decode cX0_sow 1 = .ok (.iload_n 1, 1) := dk_27 (dk_at dksX0_sow_0 1 rfl rfl)
theorem dX0_sow_2 : decode cX0_sow 2 = .ok (.invokevirtual 236, 3) := dk_182 0 236 (dk_at dksX0_sow_0 2 rfl rfl)
theorem dX0_sow_5 : decode cX0_sow 5 = .ok (.ifCond .eq 14, 3) := dk_153 0 14 (dk_at dksX0_sow_0 5 rfl rfl)
theorem dX0_sow_8 : decode cX0_sow 8 = .ok (.aload_n 0, 1) := dk_42 (dk_at dksX0_sow_0 8 rfl rfl)
theorem dX0_sow_9 : decode cX0_sow 9 = .ok (.iload_n 2, 1) := dk_28 (dk_at dksX0_sow_0 9 rfl rfl)
theorem dX0_sow_10 : decode cX0_sow 10 = .ok (.iconst 0, 1) := dk_3 (dk_at dksX0_sow_0 10 rfl rfl)
theorem dX0_sow_11 : decode cX0_sow 11 = .ok (.bipush 72, 2) := dk_16 72 (dk_at dksX0_sow_0 11 rfl rfl)
theorem dX0_sow_13 : decode cX0_sow 13 = .ok (.invokevirtual 259, 3) := dk_182 1 3 (dk_at dksX0_sow_0 13 rfl rfl)
theorem dX0_sow_16 : decode cX0_sow 16 = .ok (.ifCond .ne 5, 3) := dk_154 0 5 (dk_at dksX0_sow_0 16 rfl rfl)
theorem dX0_sow_19 : decode cX0_sow 19 = .ok (.iconst (-1), 1) := dk_2 (dk_at dksX0_sow_0 19 rfl rfl)
theorem dX0_sow_20 : decode cX0_sow 20 = .ok (.ireturn, 1) := dk_172 (dk_at dksX0_sow_0 20 rfl rfl)
theorem dX0_sow_21 : decode cX0_sow 21 = .ok (.iconst (-1), 1) := dk_2 (dk_at dksX0_sow_0 21 rfl rfl)
theorem dX0_sow_22 : decode cX0_sow 22 = .ok (.istore_n 3, 1) := dk_62 (dk_at dksX0_sow_0 22 rfl rfl)
theorem dX0_sow_23 : decode cX0_sow 23 = .ok (.ldc2_w 292, 3) := dk_20 1 36 (dk_at dksX0_sow_1 0 rfl rfl)
theorem dX0_sow_26 : decode cX0_sow 26 = .ok (.lstore 4, 2) := dk_55 4 (dk_at dksX0_sow_1 3 rfl rfl)
theorem dX0_sow_28 : decode cX0_sow 28 = .ok (.iconst 0, 1) := dk_3 (dk_at dksX0_sow_1 5 rfl rfl)
theorem dX0_sow_29 : decode cX0_sow 29 = .ok (.istore 6, 2) := dk_54 6 (dk_at dksX0_sow_1 6 rfl rfl)
theorem dX0_sow_31 : decode cX0_sow 31 = .ok (.iload 6, 2) := dk_21 6 (dk_at dksX0_sow_1 8 rfl rfl)
theorem dX0_sow_33 : decode cX0_sow 33 = .ok (.aload_n 0, 1) := dk_42 (dk_at dksX0_sow_1 10 rfl rfl)
theorem dX0_sow_34 : decode cX0_sow 34 = .ok (.invokevirtual 163, 3) := dk_182 0 163 (dk_at dksX0_sow_1 11 rfl rfl)
theorem dX0_sow_37 : decode cX0_sow 37 = .ok (.if_icmp .ge 106, 3) := dk_162 0 106 (dk_at dksX0_sow_1 14 rfl rfl)
theorem dX0_sow_40 : decode cX0_sow 40 = .ok (.aload_n 0, 1) := dk_42 (dk_at dksX0_sow_1 17 rfl rfl)
theorem dX0_sow_41 : decode cX0_sow 41 = .ok (.getfield 75, 3) := dk_180 0 75 (dk_at dksX0_sow_1 18 rfl rfl)
theorem dX0_sow_44 : decode cX0_sow 44 = .ok (.aload_n 0, 1) := dk_42 (dk_at dksX0_sow_1 21 rfl rfl)
theorem dX0_sow_45 : decode cX0_sow 45 = .ok (.getfield 71, 3) := dk_180 0 71 (dk_at dksX0_sow_2 0 rfl rfl)
theorem dX0_sow_48 : decode cX0_sow 48 = .ok (.invokevirtual 262, 3) := dk_182 1 6 (dk_at dksX0_sow_2 3 rfl rfl)
theorem dX0_sow_51 : decode cX0_sow 51 = .ok (.pop, 1) := dk_87 (dk_at dksX0_sow_2 6 rfl rfl)
theorem dX0_sow_52 : decode cX0_sow 52 = .ok (.aload_n 0, 1) := dk_42 (dk_at dksX0_sow_2 7 rfl rfl)
theorem dX0_sow_53 : decode cX0_sow 53 = .ok (.getfield 75, 3) := dk_180 0 75 (dk_at dksX0_sow_2 8 rfl rfl)
theorem dX0_sow_56 : decode cX0_sow 56 = .ok (.aload_n 0, 1) := dk_42 (dk_at dksX0_sow_2 11 rfl rfl)
theorem dX0_sow_57 : decode cX0_sow 57 = .ok (.getfield 75, 3) := dk_180 0 75 (dk_at dksX0_sow_2 12 rfl rfl)
theorem dX0_sow_60 : decode cX0_sow 60 = .ok (.iload_n 1, 1) := dk_27 (dk_at dksX0_sow_2 15 rfl rfl)
theorem dX0_sow_61 : decode cX0_sow 61 = .ok (.invokevirtual 286, 3) := dk_182 1 30 (dk_at dksX0_sow_2 16 rfl rfl)
theorem dX0_sow_64 : decode cX0_sow 64 = .ok (.iload 6, 2) := dk_21 6 (dk_at dksX0_sow_2 19 rfl rfl)
theorem dX0_sow_66 : decode cX0_sow 66 = .ok (.invokevirtual 294, 3) := dk_182 1 38 (dk_at dksX0_sow_2 21 rfl rfl)
theorem dX0_sow_69 : decode cX0_sow 69 = .ok (.ifCond .eq 6, 3) := dk_153 0 6 (dk_at dksX0_sow_3 0 rfl rfl)
theorem dX0_sow_72 : decode cX0_sow 72 = .ok (.goto 65, 3) := dk_167 0 65 (dk_at dksX0_sow_3 3 rfl rfl)
theorem dX0_sow_75 : decode cX0_sow 75 = .ok (.aload_n 0, 1) := dk_42 (dk_at dksX0_sow_3 6 rfl rfl)
theorem dX0_sow_76 : decode cX0_sow 76 = .ok (.getfield 75, 3) := dk_180 0 75 (dk_at dksX0_sow_3 7 rfl rfl)
theorem dX0_sow_79 : decode cX0_sow 79 = .ok (.iload_n 1, 1) := dk_27 (dk_at dksX0_sow_3 10 rfl rfl)
theorem dX0_sow_80 : decode cX0_sow 80 = .ok (.iload 6, 2) := dk_21 6 (dk_at dksX0_sow_3 11 rfl rfl)
theorem dX0_sow_82 : decode cX0_sow 82 = .ok (.invokevirtual 297, 3) := dk_182 1 41 (dk_at dksX0_sow_3 13 rfl rfl)
theorem dX0_sow_85 : decode cX0_sow 85 = .ok (.pop, 1) := dk_87 (dk_at dksX0_sow_3 16 rfl rfl)
theorem dX0_sow_86 : decode cX0_sow 86 = .ok (.aload_n 0, 1) := dk_42 (dk_at dksX0_sow_3 17 rfl rfl)
theorem dX0_sow_87 : decode cX0_sow 87 = .ok (.getfield 75, 3) := dk_180 0 75 (dk_at dksX0_sow_3 18 rfl rfl)
theorem dX0_sow_90 : decode cX0_sow 90 = .ok (.getfield 270, 3) := dk_180 1 14 (dk_at dksX0_sow_3 21 rfl rfl)
theorem dX0_sow_93 : decode cX0_sow 93 = .ok (.iload_n 1, 1) := dk_27 (dk_at dksX0_sow_4 0 rfl rfl)
theorem dX0_sow_94 : decode cX0_sow 94 = .ok (.lconst 0, 1) := dk_9 (dk_at dksX0_sow_4 1 rfl rfl)
theorem dX0_sow_95 : decode cX0_sow 95 = .ok (.lastore, 1) := dk_80 (dk_at dksX0_sow_4 2 rfl rfl)
theorem dX0_sow_96 : decode cX0_sow 96 = .ok (.aload_n 0, 1) := dk_42 (dk_at dksX0_sow_4 3 rfl rfl)
theorem dX0_sow_97 : decode cX0_sow 97 = .ok (.getfield 75, 3) := dk_180 0 75 (dk_at dksX0_sow_4 4 rfl rfl)
theorem dX0_sow_100 : decode cX0_sow 100 = .ok (.iload_n 2, 1) := dk_28 (dk_at dksX0_sow_4 7 rfl rfl)
theorem dX0_sow_101 : decode cX0_sow 101 = .ok (.invokevirtual 266, 3) := dk_182 1 10 (dk_at dksX0_sow_4 8 rfl rfl)
theorem dX0_sow_104 : decode cX0_sow 104 = .ok (.pop, 1) := dk_87 (dk_at dksX0_sow_4 11 rfl rfl)
theorem dX0_sow_105 : decode cX0_sow 105 = .ok (.aload_n 0, 1) := dk_42 (dk_at dksX0_sow_4 12 rfl rfl)
theorem dX0_sow_106 : decode cX0_sow 106 = .ok (.getfield 75, 3) := dk_180 0 75 (dk_at dksX0_sow_4 13 rfl rfl)
theorem dX0_sow_109 : decode cX0_sow 109 = .ok (.getfield 270, 3) := dk_180 1 14 (dk_at dksX0_sow_4 16 rfl rfl)
theorem dX0_sow_112 : decode cX0_sow 112 = .ok (.iload_n 1, 1) := dk_27 (dk_at dksX0_sow_4 19 rfl rfl)
theorem dX0_sow_113 : decode cX0_sow 113 = .ok (.laload, 1) := dk_47 (dk_at dksX0_sow_4 20 rfl rfl)
theorem dX0_sow_114 : decode cX0_sow 114 = .ok (.lload 4, 2) := dk_22 4 (dk_at dksX0_sow_4 21 rfl rfl)
theorem dX0_sow_116 : decode cX0_sow 116 = .ok (.lcmp, 1) := dk_148 (dk_at dksX0_sow_4 23 rfl rfl)
theorem dX0_sow_117 : decode cX0_sow 117 = .ok (.ifCond .gt 6, 3) := dk_157 0 6 (dk_at dksX0_sow_5 0 rfl rfl)
theorem dX0_sow_120 : decode cX0_sow 120 = .ok (.goto 17, 3) := dk_167 0 17 (dk_at dksX0_sow_5 3 rfl rfl)
theorem dX0_sow_123 : decode cX0_sow 123 = .ok (.aload_n 0, 1) := dk_42 (dk_at dksX0_sow_5 6 rfl rfl)
theorem dX0_sow_124 : decode cX0_sow 124 = .ok (.getfield 75, 3) := dk_180 0 75 (dk_at dksX0_sow_5 7 rfl rfl)
theorem dX0_sow_127 : decode cX0_sow 127 = .ok (.getfield 270, 3) := dk_180 1 14 (dk_at dksX0_sow_5 10 rfl rfl)
theorem dX0_sow_130 : decode cX0_sow 130 = .ok (.iload_n 1, 1) := dk_27 (dk_at dksX0_sow_5 13 rfl rfl)
theorem dX0_sow_131 : decode cX0_sow 131 = .ok (.laload, 1) := dk_47 (dk_at dksX0_sow_5 14 rfl rfl)
theorem dX0_sow_132 : decode cX0_sow 132 = .ok (.lstore 4, 2) := dk_55 4 (dk_at dksX0_sow_5 15 rfl rfl)
theorem dX0_sow_134 : decode cX0_sow 134 = .ok (.iload 6, 2) := dk_21 6 (dk_at dksX0_sow_5 17 rfl rfl)
theorem dX0_sow_136 : decode cX0_sow 136 = .ok (.istore_n 3, 1) := dk_62 (dk_at dksX0_sow_5 19 rfl rfl)
theorem dX0_sow_137 : decode cX0_sow 137 = .ok (.iinc 6 1, 3) := dk_132 6 1 (dk_at dksX0_sow_5 20 rfl rfl)
theorem dX0_sow_140 : decode cX0_sow 140 = .ok (.goto (-109), 3) := dk_167 255 147 (dk_at dksX0_sow_6 0 rfl rfl)
theorem dX0_sow_143 : decode cX0_sow 143 = .ok (.iload_n 3, 1) := dk_29 (dk_at dksX0_sow_6 3 rfl rfl)
theorem dX0_sow_144 : decode cX0_sow 144 = .ok (.ireturn, 1) := dk_172 (dk_at dksX0_sow_6 4 rfl rfl)
abbrev cX0_who : ByteArray := prog_1_method_44_code
def yX0_who : MethodName := ⟨RX0, "who", "(III)I"⟩
def dkwX0_who_5 : List UInt8 := [172]
abbrev dktX0_who_5 : List UInt8 := dkwX0_who_5 ++ []
def dkwX0_who_4 : List UInt8 := [153, 0, 23, 42, 27, 28, 182, 0, 253, 133, 10, 97, 20, 0, 7, 105, 22, 4, 109, 136, 167, 0, 4, 3]
abbrev dktX0_who_4 : List UInt8 := dkwX0_who_4 ++ dktX0_who_5
def dkwX0_who_3 : List UInt8 := [55, 4, 132, 6, 1, 167, 255, 215, 22, 4, 9, 148, 154, 0, 5, 2, 172, 42, 27, 29, 182, 1, 44]
abbrev dktX0_who_3 : List UInt8 := dkwX0_who_3 ++ dktX0_who_4
def dkwX0_who_2 : List UInt8 := [21, 6, 29, 182, 1, 44, 153, 0, 16, 42, 21, 6, 28, 182, 0, 253, 4, 96, 133, 167, 0, 4, 9, 97]
abbrev dktX0_who_2 : List UInt8 := dkwX0_who_2 ++ dktX0_who_3
def dkwX0_who_1 : List UInt8 := [154, 0, 5, 2, 172, 9, 55, 4, 3, 54, 6, 21, 6, 42, 182, 0, 165, 162, 0, 38, 22, 4, 42]
abbrev dktX0_who_1 : List UInt8 := dkwX0_who_1 ++ dktX0_who_2
def dkwX0_who_0 : List UInt8 := [42, 27, 182, 0, 236, 153, 0, 21, 42, 28, 182, 0, 226, 153, 0, 13, 29, 3, 16, 23, 184, 0, 185]
abbrev dktX0_who_0 : List UInt8 := dkwX0_who_0 ++ dktX0_who_1
theorem dksX0_who_0 : cX0_who.data.toList.drop 0 = dktX0_who_0 := by decide +kernel
theorem dksX0_who_1 : cX0_who.data.toList.drop 23 = dktX0_who_1 := dk_seg dksX0_who_0 23 rfl rfl
theorem dksX0_who_2 : cX0_who.data.toList.drop 46 = dktX0_who_2 := dk_seg dksX0_who_1 23 rfl rfl
theorem dksX0_who_3 : cX0_who.data.toList.drop 70 = dktX0_who_3 := dk_seg dksX0_who_2 24 rfl rfl
theorem dksX0_who_4 : cX0_who.data.toList.drop 93 = dktX0_who_4 := dk_seg dksX0_who_3 23 rfl rfl
theorem dksX0_who_5 : cX0_who.data.toList.drop 117 = dktX0_who_5 := dk_seg dksX0_who_4 24 rfl rfl
theorem dX0_who_0 : decode cX0_who 0 = .ok (.aload_n 0, 1) := dk_42 (dk_at dksX0_who_0 0 rfl rfl)
theorem dX0_who_1 : decode cX0_who 1 = .ok (.iload_n 1, 1) := dk_27 (dk_at dksX0_who_0 1 rfl rfl)
theorem dX0_who_2 : decode cX0_who 2 = .ok (.invokevirtual 236, 3) := dk_182 0 236 (dk_at dksX0_who_0 2 rfl rfl)
theorem dX0_who_5 : decode cX0_who 5 = .ok (.ifCond .eq 21, 3) := dk_153 0 21 (dk_at dksX0_who_0 5 rfl rfl)
theorem dX0_who_8 : decode cX0_who 8 = .ok (.aload_n 0, 1) := dk_42 (dk_at dksX0_who_0 8 rfl rfl)
theorem dX0_who_9 : decode cX0_who 9 = .ok (.iload_n 2, 1) := dk_28 (dk_at dksX0_who_0 9 rfl rfl)
theorem dX0_who_10 : decode cX0_who 10 = .ok (.invokevirtual 226, 3) := dk_182 0 226 (dk_at dksX0_who_0 10 rfl rfl)
theorem dX0_who_13 : decode cX0_who 13 = .ok (.ifCond .eq 13, 3) := dk_153 0 13 (dk_at dksX0_who_0 13 rfl rfl)
theorem dX0_who_16 : decode cX0_who 16 = .ok (.iload_n 3, 1) := dk_29 (dk_at dksX0_who_0 16 rfl rfl)
theorem dX0_who_17 : decode cX0_who 17 = .ok (.iconst 0, 1) := dk_3 (dk_at dksX0_who_0 17 rfl rfl)
theorem dX0_who_18 : decode cX0_who 18 = .ok (.bipush 23, 2) := dk_16 23 (dk_at dksX0_who_0 18 rfl rfl)
theorem dX0_who_20 : decode cX0_who 20 = .ok (.invokestatic 185, 3) := dk_184 0 185 (dk_at dksX0_who_0 20 rfl rfl)
theorem dX0_who_23 : decode cX0_who 23 = .ok (.ifCond .ne 5, 3) := dk_154 0 5 (dk_at dksX0_who_1 0 rfl rfl)
theorem dX0_who_26 : decode cX0_who 26 = .ok (.iconst (-1), 1) := dk_2 (dk_at dksX0_who_1 3 rfl rfl)
theorem dX0_who_27 : decode cX0_who 27 = .ok (.ireturn, 1) := dk_172 (dk_at dksX0_who_1 4 rfl rfl)
theorem dX0_who_28 : decode cX0_who 28 = .ok (.lconst 0, 1) := dk_9 (dk_at dksX0_who_1 5 rfl rfl)
theorem dX0_who_29 : decode cX0_who 29 = .ok (.lstore 4, 2) := dk_55 4 (dk_at dksX0_who_1 6 rfl rfl)
theorem dX0_who_31 : decode cX0_who 31 = .ok (.iconst 0, 1) := dk_3 (dk_at dksX0_who_1 8 rfl rfl)
theorem dX0_who_32 : decode cX0_who 32 = .ok (.istore 6, 2) := dk_54 6 (dk_at dksX0_who_1 9 rfl rfl)
theorem dX0_who_34 : decode cX0_who 34 = .ok (.iload 6, 2) := dk_21 6 (dk_at dksX0_who_1 11 rfl rfl)
theorem dX0_who_36 : decode cX0_who 36 = .ok (.aload_n 0, 1) := dk_42 (dk_at dksX0_who_1 13 rfl rfl)
theorem dX0_who_37 : decode cX0_who 37 = .ok (.invokevirtual 165, 3) := dk_182 0 165 (dk_at dksX0_who_1 14 rfl rfl)
theorem dX0_who_40 : decode cX0_who 40 = .ok (.if_icmp .ge 38, 3) := dk_162 0 38 (dk_at dksX0_who_1 17 rfl rfl)
theorem dX0_who_43 : decode cX0_who 43 = .ok (.lload 4, 2) := dk_22 4 (dk_at dksX0_who_1 20 rfl rfl)
theorem dX0_who_45 : decode cX0_who 45 = .ok (.aload_n 0, 1) := dk_42 (dk_at dksX0_who_1 22 rfl rfl)
theorem dX0_who_46 : decode cX0_who 46 = .ok (.iload 6, 2) := dk_21 6 (dk_at dksX0_who_2 0 rfl rfl)
theorem dX0_who_48 : decode cX0_who 48 = .ok (.iload_n 3, 1) := dk_29 (dk_at dksX0_who_2 2 rfl rfl)
theorem dX0_who_49 : decode cX0_who 49 = .ok (.invokevirtual 300, 3) := dk_182 1 44 (dk_at dksX0_who_2 3 rfl rfl)
theorem dX0_who_52 : decode cX0_who 52 = .ok (.ifCond .eq 16, 3) := dk_153 0 16 (dk_at dksX0_who_2 6 rfl rfl)
theorem dX0_who_55 : decode cX0_who 55 = .ok (.aload_n 0, 1) := dk_42 (dk_at dksX0_who_2 9 rfl rfl)
theorem dX0_who_56 : decode cX0_who 56 = .ok (.iload 6, 2) := dk_21 6 (dk_at dksX0_who_2 10 rfl rfl)
theorem dX0_who_58 : decode cX0_who 58 = .ok (.iload_n 2, 1) := dk_28 (dk_at dksX0_who_2 12 rfl rfl)
theorem dX0_who_59 : decode cX0_who 59 = .ok (.invokevirtual 253, 3) := dk_182 0 253 (dk_at dksX0_who_2 13 rfl rfl)
theorem dX0_who_62 : decode cX0_who 62 = .ok (.iconst 1, 1) := dk_4 (dk_at dksX0_who_2 16 rfl rfl)
theorem dX0_who_63 : decode cX0_who 63 = .ok (.iadd, 1) := dk_96 (dk_at dksX0_who_2 17 rfl rfl)
theorem dX0_who_64 : decode cX0_who 64 = .ok (.i2l, 1) := dk_133 (dk_at dksX0_who_2 18 rfl rfl)
theorem dX0_who_65 : decode cX0_who 65 = .ok (.goto 4, 3) := dk_167 0 4 (dk_at dksX0_who_2 19 rfl rfl)
theorem dX0_who_68 : decode cX0_who 68 = .ok (.lconst 0, 1) := dk_9 (dk_at dksX0_who_2 22 rfl rfl)
theorem dX0_who_69 : decode cX0_who 69 = .ok (.ladd, 1) := dk_97 (dk_at dksX0_who_2 23 rfl rfl)
theorem dX0_who_70 : decode cX0_who 70 = .ok (.lstore 4, 2) := dk_55 4 (dk_at dksX0_who_3 0 rfl rfl)
theorem dX0_who_72 : decode cX0_who 72 = .ok (.iinc 6 1, 3) := dk_132 6 1 (dk_at dksX0_who_3 2 rfl rfl)
theorem dX0_who_75 : decode cX0_who 75 = .ok (.goto (-41), 3) := dk_167 255 215 (dk_at dksX0_who_3 5 rfl rfl)
theorem dX0_who_78 : decode cX0_who 78 = .ok (.lload 4, 2) := dk_22 4 (dk_at dksX0_who_3 8 rfl rfl)
theorem dX0_who_80 : decode cX0_who 80 = .ok (.lconst 0, 1) := dk_9 (dk_at dksX0_who_3 10 rfl rfl)
theorem dX0_who_81 : decode cX0_who 81 = .ok (.lcmp, 1) := dk_148 (dk_at dksX0_who_3 11 rfl rfl)
theorem dX0_who_82 : decode cX0_who 82 = .ok (.ifCond .ne 5, 3) := dk_154 0 5 (dk_at dksX0_who_3 12 rfl rfl)
theorem dX0_who_85 : decode cX0_who 85 = .ok (.iconst (-1), 1) := dk_2 (dk_at dksX0_who_3 15 rfl rfl)
theorem dX0_who_86 : decode cX0_who 86 = .ok (.ireturn, 1) := dk_172 (dk_at dksX0_who_3 16 rfl rfl)
theorem dX0_who_87 : decode cX0_who 87 = .ok (.aload_n 0, 1) := dk_42 (dk_at dksX0_who_3 17 rfl rfl)
theorem dX0_who_88 : decode cX0_who 88 = .ok (.iload_n 1, 1) := dk_27 (dk_at dksX0_who_3 18 rfl rfl)
theorem dX0_who_89 : decode cX0_who 89 = .ok (.iload_n 3, 1) := dk_29 (dk_at dksX0_who_3 19 rfl rfl)
theorem dX0_who_90 : decode cX0_who 90 = .ok (.invokevirtual 300, 3) := dk_182 1 44 (dk_at dksX0_who_3 20 rfl rfl)
theorem dX0_who_93 : decode cX0_who 93 = .ok (.ifCond .eq 23, 3) := dk_153 0 23 (dk_at dksX0_who_4 0 rfl rfl)
theorem dX0_who_96 : decode cX0_who 96 = .ok (.aload_n 0, 1) := dk_42 (dk_at dksX0_who_4 3 rfl rfl)
theorem dX0_who_97 : decode cX0_who 97 = .ok (.iload_n 1, 1) := dk_27 (dk_at dksX0_who_4 4 rfl rfl)
theorem dX0_who_98 : decode cX0_who 98 = .ok (.iload_n 2, 1) := dk_28 (dk_at dksX0_who_4 5 rfl rfl)
theorem dX0_who_99 : decode cX0_who 99 = .ok (.invokevirtual 253, 3) := dk_182 0 253 (dk_at dksX0_who_4 6 rfl rfl)
theorem dX0_who_102 : decode cX0_who 102 = .ok (.i2l, 1) := dk_133 (dk_at dksX0_who_4 9 rfl rfl)
theorem dX0_who_103 : decode cX0_who 103 = .ok (.lconst 1, 1) := dk_10 (dk_at dksX0_who_4 10 rfl rfl)
theorem dX0_who_104 : decode cX0_who 104 = .ok (.ladd, 1) := dk_97 (dk_at dksX0_who_4 11 rfl rfl)
theorem dX0_who_105 : decode cX0_who 105 = .ok (.ldc2_w 7, 3) := dk_20 0 7 (dk_at dksX0_who_4 12 rfl rfl)
theorem dX0_who_108 : decode cX0_who 108 = .ok (.lmul, 1) := dk_105 (dk_at dksX0_who_4 15 rfl rfl)
theorem dX0_who_109 : decode cX0_who 109 = .ok (.lload 4, 2) := dk_22 4 (dk_at dksX0_who_4 16 rfl rfl)
theorem dX0_who_111 : decode cX0_who 111 = .ok (.ldiv, 1) := dk_109 (dk_at dksX0_who_4 18 rfl rfl)
theorem dX0_who_112 : decode cX0_who 112 = .ok (.l2i, 1) := dk_136 (dk_at dksX0_who_4 19 rfl rfl)
theorem dX0_who_113 : decode cX0_who 113 = .ok (.goto 4, 3) := dk_167 0 4 (dk_at dksX0_who_4 20 rfl rfl)
theorem dX0_who_116 : decode cX0_who 116 = .ok (.iconst 0, 1) := dk_3 (dk_at dksX0_who_4 23 rfl rfl)
theorem dX0_who_117 : decode cX0_who 117 = .ok (.ireturn, 1) := dk_172 (dk_at dksX0_who_5 0 rfl rfl)
abbrev cX0_sofa : ByteArray := prog_1_method_47_code
def yX0_sofa : MethodName := ⟨RX0, "sofa", "(II)I"⟩
def dkwX0_sofa_3 : List UInt8 := [29, 172]
abbrev dktX0_sofa_3 : List UInt8 := dkwX0_sofa_3 ++ []
def dkwX0_sofa_2 : List UInt8 := [21, 4, 182, 1, 53, 42, 27, 28, 29, 182, 1, 53, 164, 0, 6, 21, 4, 62, 132, 4, 1, 167, 255, 218]
abbrev dktX0_sofa_2 : List UInt8 := dkwX0_sofa_2 ++ dktX0_sofa_3
def dkwX0_sofa_1 : List UInt8 := [2, 172, 2, 62, 3, 54, 4, 21, 4, 42, 182, 0, 163, 162, 0, 35, 29, 2, 159, 0, 21, 42, 27, 28]
abbrev dktX0_sofa_1 : List UInt8 := dkwX0_sofa_1 ++ dktX0_sofa_2
def dkwX0_sofa_0 : List UInt8 := [27, 4, 161, 0, 22, 27, 4, 42, 182, 0, 165, 120, 162, 0, 12, 28, 3, 5, 184, 0, 185, 154, 0, 5]
abbrev dktX0_sofa_0 : List UInt8 := dkwX0_sofa_0 ++ dktX0_sofa_1
theorem dksX0_sofa_0 : cX0_sofa.data.toList.drop 0 = dktX0_sofa_0 := by decide +kernel
theorem dksX0_sofa_1 : cX0_sofa.data.toList.drop 24 = dktX0_sofa_1 := dk_seg dksX0_sofa_0 24 rfl rfl
theorem dksX0_sofa_2 : cX0_sofa.data.toList.drop 48 = dktX0_sofa_2 := dk_seg dksX0_sofa_1 24 rfl rfl
theorem dksX0_sofa_3 : cX0_sofa.data.toList.drop 72 = dktX0_sofa_3 := dk_seg dksX0_sofa_2 24 rfl rfl
theorem dX0_sofa_0 : decode cX0_sofa 0 = .ok (.iload_n 1, 1) := dk_27 (dk_at dksX0_sofa_0 0 rfl rfl)
theorem dX0_sofa_1 : decode cX0_sofa 1 = .ok (.iconst 1, 1) := dk_4 (dk_at dksX0_sofa_0 1 rfl rfl)
theorem dX0_sofa_2 : decode cX0_sofa 2 = .ok (.if_icmp .lt 22, 3) := dk_161 0 22 (dk_at dksX0_sofa_0 2 rfl rfl)
theorem dX0_sofa_5 : decode cX0_sofa 5 = .ok (.iload_n 1, 1) := dk_27 (dk_at dksX0_sofa_0 5 rfl rfl)
theorem dX0_sofa_6 : decode cX0_sofa 6 = .ok (.iconst 1, 1) := dk_4 (dk_at dksX0_sofa_0 6 rfl rfl)
theorem dX0_sofa_7 : decode cX0_sofa 7 = .ok (.aload_n 0, 1) := dk_42 (dk_at dksX0_sofa_0 7 rfl rfl)
theorem dX0_sofa_8 : decode cX0_sofa 8 = .ok (.invokevirtual 165, 3) := dk_182 0 165 (dk_at dksX0_sofa_0 8 rfl rfl)
theorem dX0_sofa_11 : decode cX0_sofa 11 = .ok (.ishl, 1) := dk_120 (dk_at dksX0_sofa_0 11 rfl rfl)
theorem dX0_sofa_12 : decode cX0_sofa 12 = .ok (.if_icmp .ge 12, 3) := dk_162 0 12 (dk_at dksX0_sofa_0 12 rfl rfl)
theorem dX0_sofa_15 : decode cX0_sofa 15 = .ok (.iload_n 2, 1) := dk_28 (dk_at dksX0_sofa_0 15 rfl rfl)
theorem dX0_sofa_16 : decode cX0_sofa 16 = .ok (.iconst 0, 1) := dk_3 (dk_at dksX0_sofa_0 16 rfl rfl)
theorem dX0_sofa_17 : decode cX0_sofa 17 = .ok (.iconst 2, 1) := dk_5 (dk_at dksX0_sofa_0 17 rfl rfl)
theorem dX0_sofa_18 : decode cX0_sofa 18 = .ok (.invokestatic 185, 3) := dk_184 0 185 (dk_at dksX0_sofa_0 18 rfl rfl)
theorem dX0_sofa_21 : decode cX0_sofa 21 = .ok (.ifCond .ne 5, 3) := dk_154 0 5 (dk_at dksX0_sofa_0 21 rfl rfl)
theorem dX0_sofa_24 : decode cX0_sofa 24 = .ok (.iconst (-1), 1) := dk_2 (dk_at dksX0_sofa_1 0 rfl rfl)
theorem dX0_sofa_25 : decode cX0_sofa 25 = .ok (.ireturn, 1) := dk_172 (dk_at dksX0_sofa_1 1 rfl rfl)
theorem dX0_sofa_26 : decode cX0_sofa 26 = .ok (.iconst (-1), 1) := dk_2 (dk_at dksX0_sofa_1 2 rfl rfl)
theorem dX0_sofa_27 : decode cX0_sofa 27 = .ok (.istore_n 3, 1) := dk_62 (dk_at dksX0_sofa_1 3 rfl rfl)
theorem dX0_sofa_28 : decode cX0_sofa 28 = .ok (.iconst 0, 1) := dk_3 (dk_at dksX0_sofa_1 4 rfl rfl)
theorem dX0_sofa_29 : decode cX0_sofa 29 = .ok (.istore 4, 2) := dk_54 4 (dk_at dksX0_sofa_1 5 rfl rfl)
theorem dX0_sofa_31 : decode cX0_sofa 31 = .ok (.iload 4, 2) := dk_21 4 (dk_at dksX0_sofa_1 7 rfl rfl)
theorem dX0_sofa_33 : decode cX0_sofa 33 = .ok (.aload_n 0, 1) := dk_42 (dk_at dksX0_sofa_1 9 rfl rfl)
theorem dX0_sofa_34 : decode cX0_sofa 34 = .ok (.invokevirtual 163, 3) := dk_182 0 163 (dk_at dksX0_sofa_1 10 rfl rfl)
theorem dX0_sofa_37 : decode cX0_sofa 37 = .ok (.if_icmp .ge 35, 3) := dk_162 0 35 (dk_at dksX0_sofa_1 13 rfl rfl)
theorem dX0_sofa_40 : decode cX0_sofa 40 = .ok (.iload_n 3, 1) := dk_29 (dk_at dksX0_sofa_1 16 rfl rfl)
theorem dX0_sofa_41 : decode cX0_sofa 41 = .ok (.iconst (-1), 1) := dk_2 (dk_at dksX0_sofa_1 17 rfl rfl)
theorem dX0_sofa_42 : decode cX0_sofa 42 = .ok (.if_icmp .eq 21, 3) := dk_159 0 21 (dk_at dksX0_sofa_1 18 rfl rfl)
theorem dX0_sofa_45 : decode cX0_sofa 45 = .ok (.aload_n 0, 1) := dk_42 (dk_at dksX0_sofa_1 21 rfl rfl)
theorem dX0_sofa_46 : decode cX0_sofa 46 = .ok (.iload_n 1, 1) := dk_27 (dk_at dksX0_sofa_1 22 rfl rfl)
theorem dX0_sofa_47 : decode cX0_sofa 47 = .ok (.iload_n 2, 1) := dk_28 (dk_at dksX0_sofa_1 23 rfl rfl)
theorem dX0_sofa_48 : decode cX0_sofa 48 = .ok (.iload 4, 2) := dk_21 4 (dk_at dksX0_sofa_2 0 rfl rfl)
theorem dX0_sofa_50 : decode cX0_sofa 50 = .ok (.invokevirtual 309, 3) := dk_182 1 53 (dk_at dksX0_sofa_2 2 rfl rfl)
theorem dX0_sofa_53 : decode cX0_sofa 53 = .ok (.aload_n 0, 1) := dk_42 (dk_at dksX0_sofa_2 5 rfl rfl)
theorem dX0_sofa_54 : decode cX0_sofa 54 = .ok (.iload_n 1, 1) := dk_27 (dk_at dksX0_sofa_2 6 rfl rfl)
theorem dX0_sofa_55 : decode cX0_sofa 55 = .ok (.iload_n 2, 1) := dk_28 (dk_at dksX0_sofa_2 7 rfl rfl)
theorem dX0_sofa_56 : decode cX0_sofa 56 = .ok (.iload_n 3, 1) := dk_29 (dk_at dksX0_sofa_2 8 rfl rfl)
theorem dX0_sofa_57 : decode cX0_sofa 57 = .ok (.invokevirtual 309, 3) := dk_182 1 53 (dk_at dksX0_sofa_2 9 rfl rfl)
theorem dX0_sofa_60 : decode cX0_sofa 60 = .ok (.if_icmp .le 6, 3) := dk_164 0 6 (dk_at dksX0_sofa_2 12 rfl rfl)
theorem dX0_sofa_63 : decode cX0_sofa 63 = .ok (.iload 4, 2) := dk_21 4 (dk_at dksX0_sofa_2 15 rfl rfl)
theorem dX0_sofa_65 : decode cX0_sofa 65 = .ok (.istore_n 3, 1) := dk_62 (dk_at dksX0_sofa_2 17 rfl rfl)
theorem dX0_sofa_66 : decode cX0_sofa 66 = .ok (.iinc 4 1, 3) := dk_132 4 1 (dk_at dksX0_sofa_2 18 rfl rfl)
theorem dX0_sofa_69 : decode cX0_sofa 69 = .ok (.goto (-38), 3) := dk_167 255 218 (dk_at dksX0_sofa_2 21 rfl rfl)
theorem dX0_sofa_72 : decode cX0_sofa 72 = .ok (.iload_n 3, 1) := dk_29 (dk_at dksX0_sofa_3 0 rfl rfl)
theorem dX0_sofa_73 : decode cX0_sofa 73 = .ok (.ireturn, 1) := dk_172 (dk_at dksX0_sofa_3 1 rfl rfl)
abbrev cX0_together : ByteArray := prog_1_method_46_code
def yX0_together : MethodName := ⟨RX0, "together", "(III)I"⟩
def dkwX0_together_4 : List UInt8 := [132, 5, 1, 167, 255, 176, 21, 4, 172]
abbrev dktX0_together_4 : List UInt8 := dkwX0_together_4 ++ []
def dkwX0_together_3 : List UInt8 := [167, 0, 21, 21, 4, 42, 21, 5, 182, 1, 50, 29, 160, 0, 7, 4, 167, 0, 4, 3, 96, 54, 4]
abbrev dktX0_together_3 : List UInt8 := dkwX0_together_3 ++ dktX0_together_4
def dkwX0_together_2 : List UInt8 := [28, 154, 0, 11, 21, 4, 21, 6, 96, 167, 0, 36, 28, 4, 160, 0, 13, 21, 4, 21, 6, 184, 1, 48]
abbrev dktX0_together_2 : List UInt8 := dkwX0_together_2 ++ dktX0_together_3
def dkwX0_together_1 : List UInt8 := [162, 0, 77, 27, 21, 5, 184, 0, 239, 154, 0, 6, 167, 0, 59, 42, 21, 5, 29, 182, 0, 253, 54, 6]
abbrev dktX0_together_1 : List UInt8 := dkwX0_together_1 ++ dktX0_together_2
def dkwX0_together_0 : List UInt8 := [28, 4, 160, 0, 9, 19, 1, 47, 167, 0, 4, 3, 54, 4, 3, 54, 5, 21, 5, 42, 182, 0, 165]
abbrev dktX0_together_0 : List UInt8 := dkwX0_together_0 ++ dktX0_together_1
theorem dksX0_together_0 : cX0_together.data.toList.drop 0 = dktX0_together_0 := by decide +kernel
theorem dksX0_together_1 : cX0_together.data.toList.drop 23 = dktX0_together_1 := dk_seg dksX0_together_0 23 rfl rfl
theorem dksX0_together_2 : cX0_together.data.toList.drop 47 = dktX0_together_2 := dk_seg dksX0_together_1 24 rfl rfl
theorem dksX0_together_3 : cX0_together.data.toList.drop 71 = dktX0_together_3 := dk_seg dksX0_together_2 24 rfl rfl
theorem dksX0_together_4 : cX0_together.data.toList.drop 94 = dktX0_together_4 := dk_seg dksX0_together_3 23 rfl rfl
theorem dX0_together_0 : decode cX0_together 0 = .ok (.iload_n 2, 1) := dk_28 (dk_at dksX0_together_0 0 rfl rfl)
theorem dX0_together_1 : decode cX0_together 1 = .ok (.iconst 1, 1) := dk_4 (dk_at dksX0_together_0 1 rfl rfl)
theorem dX0_together_2 : decode cX0_together 2 = .ok (.if_icmp .ne 9, 3) := dk_160 0 9 (dk_at dksX0_together_0 2 rfl rfl)
theorem dX0_together_5 : decode cX0_together 5 = .ok (.ldc_w 303, 3) := dk_19 1 47 (dk_at dksX0_together_0 5 rfl rfl)
theorem dX0_together_8 : decode cX0_together 8 = .ok (.goto 4, 3) := dk_167 0 4 (dk_at dksX0_together_0 8 rfl rfl)
theorem dX0_together_11 : decode cX0_together 11 = .ok (.iconst 0, 1) := dk_3 (dk_at dksX0_together_0 11 rfl rfl)
theorem dX0_together_12 : decode cX0_together 12 = .ok (.istore 4, 2) := dk_54 4 (dk_at dksX0_together_0 12 rfl rfl)
theorem dX0_together_14 : decode cX0_together 14 = .ok (.iconst 0, 1) := dk_3 (dk_at dksX0_together_0 14 rfl rfl)
theorem dX0_together_15 : decode cX0_together 15 = .ok (.istore 5, 2) := dk_54 5 (dk_at dksX0_together_0 15 rfl rfl)
theorem dX0_together_17 : decode cX0_together 17 = .ok (.iload 5, 2) := dk_21 5 (dk_at dksX0_together_0 17 rfl rfl)
theorem dX0_together_19 : decode cX0_together 19 = .ok (.aload_n 0, 1) := dk_42 (dk_at dksX0_together_0 19 rfl rfl)
theorem dX0_together_20 : decode cX0_together 20 = .ok (.invokevirtual 165, 3) := dk_182 0 165 (dk_at dksX0_together_0 20 rfl rfl)
theorem dX0_together_23 : decode cX0_together 23 = .ok (.if_icmp .ge 77, 3) := dk_162 0 77 (dk_at dksX0_together_1 0 rfl rfl)
theorem dX0_together_26 : decode cX0_together 26 = .ok (.iload_n 1, 1) := dk_27 (dk_at dksX0_together_1 3 rfl rfl)
theorem dX0_together_27 : decode cX0_together 27 = .ok (.iload 5, 2) := dk_21 5 (dk_at dksX0_together_1 4 rfl rfl)
theorem dX0_together_29 : decode cX0_together 29 = .ok (.invokestatic 239, 3) := dk_184 0 239 (dk_at dksX0_together_1 6 rfl rfl)
theorem dX0_together_32 : decode cX0_together 32 = .ok (.ifCond .ne 6, 3) := dk_154 0 6 (dk_at dksX0_together_1 9 rfl rfl)
theorem dX0_together_35 : decode cX0_together 35 = .ok (.goto 59, 3) := dk_167 0 59 (dk_at dksX0_together_1 12 rfl rfl)
theorem dX0_together_38 : decode cX0_together 38 = .ok (.aload_n 0, 1) := dk_42 (dk_at dksX0_together_1 15 rfl rfl)
theorem dX0_together_39 : decode cX0_together 39 = .ok (.iload 5, 2) := dk_21 5 (dk_at dksX0_together_1 16 rfl rfl)
theorem dX0_together_41 : decode cX0_together 41 = .ok (.iload_n 3, 1) := dk_29 (dk_at dksX0_together_1 18 rfl rfl)
theorem dX0_together_42 : decode cX0_together 42 = .ok (.invokevirtual 253, 3) := dk_182 0 253 (dk_at dksX0_together_1 19 rfl rfl)
theorem dX0_together_45 : decode cX0_together 45 = .ok (.istore 6, 2) := dk_54 6 (dk_at dksX0_together_1 22 rfl rfl)
theorem dX0_together_47 : decode cX0_together 47 = .ok (.iload_n 2, 1) := dk_28 (dk_at dksX0_together_2 0 rfl rfl)
theorem dX0_together_48 : decode cX0_together 48 = .ok (.ifCond .ne 11, 3) := dk_154 0 11 (dk_at dksX0_together_2 1 rfl rfl)
theorem dX0_together_51 : decode cX0_together 51 = .ok (.iload 4, 2) := dk_21 4 (dk_at dksX0_together_2 4 rfl rfl)
theorem dX0_together_53 : decode cX0_together 53 = .ok (.iload 6, 2) := dk_21 6 (dk_at dksX0_together_2 6 rfl rfl)
theorem dX0_together_55 : decode cX0_together 55 = .ok (.iadd, 1) := dk_96 (dk_at dksX0_together_2 8 rfl rfl)
theorem dX0_together_56 : decode cX0_together 56 = .ok (.goto 36, 3) := dk_167 0 36 (dk_at dksX0_together_2 9 rfl rfl)
theorem dX0_together_59 : decode cX0_together 59 = .ok (.iload_n 2, 1) := dk_28 (dk_at dksX0_together_2 12 rfl rfl)
theorem dX0_together_60 : decode cX0_together 60 = .ok (.iconst 1, 1) := dk_4 (dk_at dksX0_together_2 13 rfl rfl)
theorem dX0_together_61 : decode cX0_together 61 = .ok (.if_icmp .ne 13, 3) := dk_160 0 13 (dk_at dksX0_together_2 14 rfl rfl)
theorem dX0_together_64 : decode cX0_together 64 = .ok (.iload 4, 2) := dk_21 4 (dk_at dksX0_together_2 17 rfl rfl)
theorem dX0_together_66 : decode cX0_together 66 = .ok (.iload 6, 2) := dk_21 6 (dk_at dksX0_together_2 19 rfl rfl)
theorem dX0_together_68 : decode cX0_together 68 = .ok (.invokestatic 304, 3) := dk_184 1 48 (dk_at dksX0_together_2 21 rfl rfl)
theorem dX0_together_71 : decode cX0_together 71 = .ok (.goto 21, 3) := dk_167 0 21 (dk_at dksX0_together_3 0 rfl rfl)
theorem dX0_together_74 : decode cX0_together 74 = .ok (.iload 4, 2) := dk_21 4 (dk_at dksX0_together_3 3 rfl rfl)
theorem dX0_together_76 : decode cX0_together 76 = .ok (.aload_n 0, 1) := dk_42 (dk_at dksX0_together_3 5 rfl rfl)
theorem dX0_together_77 : decode cX0_together 77 = .ok (.iload 5, 2) := dk_21 5 (dk_at dksX0_together_3 6 rfl rfl)
theorem dX0_together_79 : decode cX0_together 79 = .ok (.invokevirtual 306, 3) := dk_182 1 50 (dk_at dksX0_together_3 8 rfl rfl)
theorem dX0_together_82 : decode cX0_together 82 = .ok (.iload_n 3, 1) := dk_29 (dk_at dksX0_together_3 11 rfl rfl)
theorem dX0_together_83 : decode cX0_together 83 = .ok (.if_icmp .ne 7, 3) := dk_160 0 7 (dk_at dksX0_together_3 12 rfl rfl)
theorem dX0_together_86 : decode cX0_together 86 = .ok (.iconst 1, 1) := dk_4 (dk_at dksX0_together_3 15 rfl rfl)
theorem dX0_together_87 : decode cX0_together 87 = .ok (.goto 4, 3) := dk_167 0 4 (dk_at dksX0_together_3 16 rfl rfl)
theorem dX0_together_90 : decode cX0_together 90 = .ok (.iconst 0, 1) := dk_3 (dk_at dksX0_together_3 19 rfl rfl)
theorem dX0_together_91 : decode cX0_together 91 = .ok (.iadd, 1) := dk_96 (dk_at dksX0_together_3 20 rfl rfl)
theorem dX0_together_92 : decode cX0_together 92 = .ok (.istore 4, 2) := dk_54 4 (dk_at dksX0_together_3 21 rfl rfl)
theorem dX0_together_94 : decode cX0_together 94 = .ok (.iinc 5 1, 3) := dk_132 5 1 (dk_at dksX0_together_4 0 rfl rfl)
theorem dX0_together_97 : decode cX0_together 97 = .ok (.goto (-80), 3) := dk_167 255 176 (dk_at dksX0_together_4 3 rfl rfl)
theorem dX0_together_100 : decode cX0_together 100 = .ok (.iload 4, 2) := dk_21 4 (dk_at dksX0_together_4 6 rfl rfl)
theorem dX0_together_102 : decode cX0_together 102 = .ok (.ireturn, 1) := dk_172 (dk_at dksX0_together_4 8 rfl rfl)
abbrev cX0_firstFilm : ByteArray := prog_1_method_45_code
def yX0_firstFilm : MethodName := ⟨RX0, "firstFilm", "(I)I"⟩
def dkwX0_firstFilm_1 : List UInt8 := [164, 0, 5, 29, 61, 132, 3, 1, 167, 255, 228, 28, 172]
abbrev dktX0_firstFilm_1 : List UInt8 := dkwX0_firstFilm_1 ++ []
def dkwX0_firstFilm_0 : List UInt8 := [3, 61, 4, 62, 29, 42, 182, 0, 163, 162, 0, 26, 42, 27, 29, 182, 0, 253, 42, 27, 28, 182, 0, 253]
abbrev dktX0_firstFilm_0 : List UInt8 := dkwX0_firstFilm_0 ++ dktX0_firstFilm_1
theorem dksX0_firstFilm_0 : cX0_firstFilm.data.toList.drop 0 = dktX0_firstFilm_0 := by decide +kernel
theorem dksX0_firstFilm_1 : cX0_firstFilm.data.toList.drop 24 = dktX0_firstFilm_1 := dk_seg dksX0_firstFilm_0 24 rfl rfl
theorem dX0_firstFilm_0 : decode cX0_firstFilm 0 = .ok (.iconst 0, 1) := dk_3 (dk_at dksX0_firstFilm_0 0 rfl rfl)
theorem dX0_firstFilm_1 : decode cX0_firstFilm 1 = .ok (.istore_n 2, 1) := dk_61 (dk_at dksX0_firstFilm_0 1 rfl rfl)
theorem dX0_firstFilm_2 : decode cX0_firstFilm 2 = .ok (.iconst 1, 1) := dk_4 (dk_at dksX0_firstFilm_0 2 rfl rfl)
theorem dX0_firstFilm_3 : decode cX0_firstFilm 3 = .ok (.istore_n 3, 1) := dk_62 (dk_at dksX0_firstFilm_0 3 rfl rfl)
theorem dX0_firstFilm_4 : decode cX0_firstFilm 4 = .ok (.iload_n 3, 1) := dk_29 (dk_at dksX0_firstFilm_0 4 rfl rfl)
theorem dX0_firstFilm_5 : decode cX0_firstFilm 5 = .ok (.aload_n 0, 1) := dk_42 (dk_at dksX0_firstFilm_0 5 rfl rfl)
theorem dX0_firstFilm_6 : decode cX0_firstFilm 6 = .ok (.invokevirtual 163, 3) := dk_182 0 163 (dk_at dksX0_firstFilm_0 6 rfl rfl)
theorem dX0_firstFilm_9 : decode cX0_firstFilm 9 = .ok (.if_icmp .ge 26, 3) := dk_162 0 26 (dk_at dksX0_firstFilm_0 9 rfl rfl)
theorem dX0_firstFilm_12 : decode cX0_firstFilm 12 = .ok (.aload_n 0, 1) := dk_42 (dk_at dksX0_firstFilm_0 12 rfl rfl)
theorem dX0_firstFilm_13 : decode cX0_firstFilm 13 = .ok (.iload_n 1, 1) := dk_27 (dk_at dksX0_firstFilm_0 13 rfl rfl)
theorem dX0_firstFilm_14 : decode cX0_firstFilm 14 = .ok (.iload_n 3, 1) := dk_29 (dk_at dksX0_firstFilm_0 14 rfl rfl)
theorem dX0_firstFilm_15 : decode cX0_firstFilm 15 = .ok (.invokevirtual 253, 3) := dk_182 0 253 (dk_at dksX0_firstFilm_0 15 rfl rfl)
theorem dX0_firstFilm_18 : decode cX0_firstFilm 18 = .ok (.aload_n 0, 1) := dk_42 (dk_at dksX0_firstFilm_0 18 rfl rfl)
theorem dX0_firstFilm_19 : decode cX0_firstFilm 19 = .ok (.iload_n 1, 1) := dk_27 (dk_at dksX0_firstFilm_0 19 rfl rfl)
theorem dX0_firstFilm_20 : decode cX0_firstFilm 20 = .ok (.iload_n 2, 1) := dk_28 (dk_at dksX0_firstFilm_0 20 rfl rfl)
theorem dX0_firstFilm_21 : decode cX0_firstFilm 21 = .ok (.invokevirtual 253, 3) := dk_182 0 253 (dk_at dksX0_firstFilm_0 21 rfl rfl)
theorem dX0_firstFilm_24 : decode cX0_firstFilm 24 = .ok (.if_icmp .le 5, 3) := dk_164 0 5 (dk_at dksX0_firstFilm_1 0 rfl rfl)
theorem dX0_firstFilm_27 : decode cX0_firstFilm 27 = .ok (.iload_n 3, 1) := dk_29 (dk_at dksX0_firstFilm_1 3 rfl rfl)
theorem dX0_firstFilm_28 : decode cX0_firstFilm 28 = .ok (.istore_n 2, 1) := dk_61 (dk_at dksX0_firstFilm_1 4 rfl rfl)
theorem dX0_firstFilm_29 : decode cX0_firstFilm 29 = .ok (.iinc 3 1, 3) := dk_132 3 1 (dk_at dksX0_firstFilm_1 5 rfl rfl)
theorem dX0_firstFilm_32 : decode cX0_firstFilm 32 = .ok (.goto (-28), 3) := dk_167 255 228 (dk_at dksX0_firstFilm_1 8 rfl rfl)
theorem dX0_firstFilm_35 : decode cX0_firstFilm 35 = .ok (.iload_n 2, 1) := dk_28 (dk_at dksX0_firstFilm_1 11 rfl rfl)
theorem dX0_firstFilm_36 : decode cX0_firstFilm 36 = .ok (.ireturn, 1) := dk_172 (dk_at dksX0_firstFilm_1 12 rfl rfl)
abbrev cX0_share : ByteArray := prog_1_method_48_code
def yX0_share : MethodName := ⟨RX0, "share", "(I)I"⟩
def dkwX0_share_5 : List UInt8 := [108, 27, 21, 4, 160, 0, 7, 29, 167, 0, 4, 3, 96, 172]
abbrev dktX0_share_5 : List UInt8 := dkwX0_share_5 ++ []
def dkwX0_share_4 : List UInt8 := [132, 5, 1, 167, 255, 194, 42, 180, 0, 33, 180, 1, 57, 42, 180, 0, 71, 180, 0, 218, 27, 46, 104, 28]
abbrev dktX0_share_4 : List UInt8 := dkwX0_share_4 ++ dktX0_share_5
def dkwX0_share_3 : List UInt8 := [180, 0, 218, 21, 5, 46, 42, 180, 0, 71, 180, 0, 218, 21, 4, 46, 164, 0, 7, 21, 5, 54, 4]
abbrev dktX0_share_3 : List UInt8 := dkwX0_share_3 ++ dktX0_share_4
def dkwX0_share_2 : List UInt8 := [180, 1, 57, 42, 180, 0, 71, 180, 0, 218, 21, 5, 46, 104, 28, 108, 100, 62, 42, 180, 0, 71]
abbrev dktX0_share_2 : List UInt8 := dkwX0_share_2 ++ dktX0_share_3
def dkwX0_share_1 : List UInt8 := [180, 1, 57, 62, 3, 54, 4, 3, 54, 5, 21, 5, 42, 182, 0, 165, 162, 0, 59, 29, 42, 180, 0, 33]
abbrev dktX0_share_1 : List UInt8 := dkwX0_share_1 ++ dktX0_share_2
def dkwX0_share_0 : List UInt8 := [42, 182, 0, 212, 61, 42, 27, 182, 0, 236, 153, 0, 7, 28, 154, 0, 5, 2, 172, 42, 180, 0, 33]
abbrev dktX0_share_0 : List UInt8 := dkwX0_share_0 ++ dktX0_share_1
theorem dksX0_share_0 : cX0_share.data.toList.drop 0 = dktX0_share_0 := by decide +kernel
theorem dksX0_share_1 : cX0_share.data.toList.drop 23 = dktX0_share_1 := dk_seg dksX0_share_0 23 rfl rfl
theorem dksX0_share_2 : cX0_share.data.toList.drop 47 = dktX0_share_2 := dk_seg dksX0_share_1 24 rfl rfl
theorem dksX0_share_3 : cX0_share.data.toList.drop 69 = dktX0_share_3 := dk_seg dksX0_share_2 22 rfl rfl
theorem dksX0_share_4 : cX0_share.data.toList.drop 92 = dktX0_share_4 := dk_seg dksX0_share_3 23 rfl rfl
theorem dksX0_share_5 : cX0_share.data.toList.drop 116 = dktX0_share_5 := dk_seg dksX0_share_4 24 rfl rfl
theorem dX0_share_0 : decode cX0_share 0 = .ok (.aload_n 0, 1) := dk_42 (dk_at dksX0_share_0 0 rfl rfl)
theorem dX0_share_1 : decode cX0_share 1 = .ok (.invokevirtual 212, 3) := dk_182 0 212 (dk_at dksX0_share_0 1 rfl rfl)
theorem dX0_share_4 : decode cX0_share 4 = .ok (.istore_n 2, 1) := dk_61 (dk_at dksX0_share_0 4 rfl rfl)
theorem dX0_share_5 : decode cX0_share 5 = .ok (.aload_n 0, 1) := dk_42 (dk_at dksX0_share_0 5 rfl rfl)
theorem dX0_share_6 : decode cX0_share 6 = .ok (.iload_n 1, 1) := dk_27 (dk_at dksX0_share_0 6 rfl rfl)
theorem dX0_share_7 : decode cX0_share 7 = .ok (.invokevirtual 236, 3) := dk_182 0 236 (dk_at dksX0_share_0 7 rfl rfl)
theorem dX0_share_10 : decode cX0_share 10 = .ok (.ifCond .eq 7, 3) := dk_153 0 7 (dk_at dksX0_share_0 10 rfl rfl)
theorem dX0_share_13 : decode cX0_share 13 = .ok (.iload_n 2, 1) := dk_28 (dk_at dksX0_share_0 13 rfl rfl)
theorem dX0_share_14 : decode cX0_share 14 = .ok (.ifCond .ne 5, 3) := dk_154 0 5 (dk_at dksX0_share_0 14 rfl rfl)
theorem dX0_share_17 : decode cX0_share 17 = .ok (.iconst (-1), 1) := dk_2 (dk_at dksX0_share_0 17 rfl rfl)
theorem dX0_share_18 : decode cX0_share 18 = .ok (.ireturn, 1) := dk_172 (dk_at dksX0_share_0 18 rfl rfl)
theorem dX0_share_19 : decode cX0_share 19 = .ok (.aload_n 0, 1) := dk_42 (dk_at dksX0_share_0 19 rfl rfl)
theorem dX0_share_20 : decode cX0_share 20 = .ok (.getfield 33, 3) := dk_180 0 33 (dk_at dksX0_share_0 20 rfl rfl)
theorem dX0_share_23 : decode cX0_share 23 = .ok (.getfield 313, 3) := dk_180 1 57 (dk_at dksX0_share_1 0 rfl rfl)
theorem dX0_share_26 : decode cX0_share 26 = .ok (.istore_n 3, 1) := dk_62 (dk_at dksX0_share_1 3 rfl rfl)
theorem dX0_share_27 : decode cX0_share 27 = .ok (.iconst 0, 1) := dk_3 (dk_at dksX0_share_1 4 rfl rfl)
theorem dX0_share_28 : decode cX0_share 28 = .ok (.istore 4, 2) := dk_54 4 (dk_at dksX0_share_1 5 rfl rfl)
theorem dX0_share_30 : decode cX0_share 30 = .ok (.iconst 0, 1) := dk_3 (dk_at dksX0_share_1 7 rfl rfl)
theorem dX0_share_31 : decode cX0_share 31 = .ok (.istore 5, 2) := dk_54 5 (dk_at dksX0_share_1 8 rfl rfl)
theorem dX0_share_33 : decode cX0_share 33 = .ok (.iload 5, 2) := dk_21 5 (dk_at dksX0_share_1 10 rfl rfl)
theorem dX0_share_35 : decode cX0_share 35 = .ok (.aload_n 0, 1) := dk_42 (dk_at dksX0_share_1 12 rfl rfl)
theorem dX0_share_36 : decode cX0_share 36 = .ok (.invokevirtual 165, 3) := dk_182 0 165 (dk_at dksX0_share_1 13 rfl rfl)
theorem dX0_share_39 : decode cX0_share 39 = .ok (.if_icmp .ge 59, 3) := dk_162 0 59 (dk_at dksX0_share_1 16 rfl rfl)
theorem dX0_share_42 : decode cX0_share 42 = .ok (.iload_n 3, 1) := dk_29 (dk_at dksX0_share_1 19 rfl rfl)
theorem dX0_share_43 : decode cX0_share 43 = .ok (.aload_n 0, 1) := dk_42 (dk_at dksX0_share_1 20 rfl rfl)
theorem dX0_share_44 : decode cX0_share 44 = .ok (.getfield 33, 3) := dk_180 0 33 (dk_at dksX0_share_1 21 rfl rfl)
theorem dX0_share_47 : decode cX0_share 47 = .ok (.getfield 313, 3) := dk_180 1 57 (dk_at dksX0_share_2 0 rfl rfl)
theorem dX0_share_50 : decode cX0_share 50 = .ok (.aload_n 0, 1) := dk_42 (dk_at dksX0_share_2 3 rfl rfl)
theorem dX0_share_51 : decode cX0_share 51 = .ok (.getfield 71, 3) := dk_180 0 71 (dk_at dksX0_share_2 4 rfl rfl)
theorem dX0_share_54 : decode cX0_share 54 = .ok (.getfield 218, 3) := dk_180 0 218 (dk_at dksX0_share_2 7 rfl rfl)
theorem dX0_share_57 : decode cX0_share 57 = .ok (.iload 5, 2) := dk_21 5 (dk_at dksX0_share_2 10 rfl rfl)
theorem dX0_share_59 : decode cX0_share 59 = .ok (.iaload, 1) := dk_46 (dk_at dksX0_share_2 12 rfl rfl)
theorem dX0_share_60 : decode cX0_share 60 = .ok (.imul, 1) := dk_104 (dk_at dksX0_share_2 13 rfl rfl)
theorem dX0_share_61 : decode cX0_share 61 = .ok (.iload_n 2, 1) := dk_28 (dk_at dksX0_share_2 14 rfl rfl)
theorem dX0_share_62 : decode cX0_share 62 = .ok (.idiv, 1) := dk_108 (dk_at dksX0_share_2 15 rfl rfl)
theorem dX0_share_63 : decode cX0_share 63 = .ok (.isub, 1) := dk_100 (dk_at dksX0_share_2 16 rfl rfl)
theorem dX0_share_64 : decode cX0_share 64 = .ok (.istore_n 3, 1) := dk_62 (dk_at dksX0_share_2 17 rfl rfl)
theorem dX0_share_65 : decode cX0_share 65 = .ok (.aload_n 0, 1) := dk_42 (dk_at dksX0_share_2 18 rfl rfl)
theorem dX0_share_66 : decode cX0_share 66 = .ok (.getfield 71, 3) := dk_180 0 71 (dk_at dksX0_share_2 19 rfl rfl)
theorem dX0_share_69 : decode cX0_share 69 = .ok (.getfield 218, 3) := dk_180 0 218 (dk_at dksX0_share_3 0 rfl rfl)
theorem dX0_share_72 : decode cX0_share 72 = .ok (.iload 5, 2) := dk_21 5 (dk_at dksX0_share_3 3 rfl rfl)
theorem dX0_share_74 : decode cX0_share 74 = .ok (.iaload, 1) := dk_46 (dk_at dksX0_share_3 5 rfl rfl)
theorem dX0_share_75 : decode cX0_share 75 = .ok (.aload_n 0, 1) := dk_42 (dk_at dksX0_share_3 6 rfl rfl)
theorem dX0_share_76 : decode cX0_share 76 = .ok (.getfield 71, 3) := dk_180 0 71 (dk_at dksX0_share_3 7 rfl rfl)
theorem dX0_share_79 : decode cX0_share 79 = .ok (.getfield 218, 3) := dk_180 0 218 (dk_at dksX0_share_3 10 rfl rfl)
theorem dX0_share_82 : decode cX0_share 82 = .ok (.iload 4, 2) := dk_21 4 (dk_at dksX0_share_3 13 rfl rfl)
theorem dX0_share_84 : decode cX0_share 84 = .ok (.iaload, 1) := dk_46 (dk_at dksX0_share_3 15 rfl rfl)
theorem dX0_share_85 : decode cX0_share 85 = .ok (.if_icmp .le 7, 3) := dk_164 0 7 (dk_at dksX0_share_3 16 rfl rfl)
theorem dX0_share_88 : decode cX0_share 88 = .ok (.iload 5, 2) := dk_21 5 (dk_at dksX0_share_3 19 rfl rfl)
theorem dX0_share_90 : decode cX0_share 90 = .ok (.istore 4, 2) := dk_54 4 (dk_at dksX0_share_3 21 rfl rfl)
theorem dX0_share_92 : decode cX0_share 92 = .ok (.iinc 5 1, 3) := dk_132 5 1 (dk_at dksX0_share_4 0 rfl rfl)
theorem dX0_share_95 : decode cX0_share 95 = .ok (.goto (-62), 3) := dk_167 255 194 (dk_at dksX0_share_4 3 rfl rfl)
theorem dX0_share_98 : decode cX0_share 98 = .ok (.aload_n 0, 1) := dk_42 (dk_at dksX0_share_4 6 rfl rfl)
theorem dX0_share_99 : decode cX0_share 99 = .ok (.getfield 33, 3) := dk_180 0 33 (dk_at dksX0_share_4 7 rfl rfl)
theorem dX0_share_102 : decode cX0_share 102 = .ok (.getfield 313, 3) := dk_180 1 57 (dk_at dksX0_share_4 10 rfl rfl)
theorem dX0_share_105 : decode cX0_share 105 = .ok (.aload_n 0, 1) := dk_42 (dk_at dksX0_share_4 13 rfl rfl)
theorem dX0_share_106 : decode cX0_share 106 = .ok (.getfield 71, 3) := dk_180 0 71 (dk_at dksX0_share_4 14 rfl rfl)
theorem dX0_share_109 : decode cX0_share 109 = .ok (.getfield 218, 3) := dk_180 0 218 (dk_at dksX0_share_4 17 rfl rfl)
theorem dX0_share_112 : decode cX0_share 112 = .ok (.iload_n 1, 1) := dk_27 (dk_at dksX0_share_4 20 rfl rfl)
theorem dX0_share_113 : decode cX0_share 113 = .ok (.iaload, 1) := dk_46 (dk_at dksX0_share_4 21 rfl rfl)
theorem dX0_share_114 : decode cX0_share 114 = .ok (.imul, 1) := dk_104 (dk_at dksX0_share_4 22 rfl rfl)
theorem dX0_share_115 : decode cX0_share 115 = .ok (.iload_n 2, 1) := dk_28 (dk_at dksX0_share_4 23 rfl rfl)
theorem dX0_share_116 : decode cX0_share 116 = .ok (.idiv, 1) := dk_108 (dk_at dksX0_share_5 0 rfl rfl)
theorem dX0_share_117 : decode cX0_share 117 = .ok (.iload_n 1, 1) := dk_27 (dk_at dksX0_share_5 1 rfl rfl)
theorem dX0_share_118 : decode cX0_share 118 = .ok (.iload 4, 2) := dk_21 4 (dk_at dksX0_share_5 2 rfl rfl)
theorem dX0_share_120 : decode cX0_share 120 = .ok (.if_icmp .ne 7, 3) := dk_160 0 7 (dk_at dksX0_share_5 4 rfl rfl)
theorem dX0_share_123 : decode cX0_share 123 = .ok (.iload_n 3, 1) := dk_29 (dk_at dksX0_share_5 7 rfl rfl)
theorem dX0_share_124 : decode cX0_share 124 = .ok (.goto 4, 3) := dk_167 0 4 (dk_at dksX0_share_5 8 rfl rfl)
theorem dX0_share_127 : decode cX0_share 127 = .ok (.iconst 0, 1) := dk_3 (dk_at dksX0_share_5 11 rfl rfl)
theorem dX0_share_128 : decode cX0_share 128 = .ok (.iadd, 1) := dk_96 (dk_at dksX0_share_5 12 rfl rfl)
theorem dX0_share_129 : decode cX0_share 129 = .ok (.ireturn, 1) := dk_172 (dk_at dksX0_share_5 13 rfl rfl)
abbrev cX0_tell : ByteArray := prog_1_method_50_code
def yX0_tell : MethodName := ⟨RX0, "tell", "()I"⟩
def dkwX0_tell_7 : List UInt8 := [167, 0, 4, 3, 84, 132, 3, 1, 167, 255, 193, 42, 180, 0, 140, 172]
abbrev dktX0_tell_7 : List UInt8 := dkwX0_tell_7 ++ []
def dkwX0_tell_6 : List UInt8 := [182, 1, 60, 79, 42, 180, 0, 89, 29, 42, 6, 29, 104, 5, 96, 182, 1, 60, 4, 160, 0, 7, 4]
abbrev dktX0_tell_6 : List UInt8 := dkwX0_tell_6 ++ dktX0_tell_7
def dkwX0_tell_5 : List UInt8 := [180, 0, 83, 29, 42, 6, 29, 104, 182, 1, 60, 79, 42, 180, 0, 86, 29, 42, 6, 29, 104, 4, 96]
abbrev dktX0_tell_5 : List UInt8 := dkwX0_tell_5 ++ dktX0_tell_6
def dkwX0_tell_4 : List UInt8 := [182, 0, 107, 172, 42, 27, 6, 108, 181, 0, 140, 3, 62, 29, 42, 180, 0, 140, 162, 0, 61, 42]
abbrev dktX0_tell_4 : List UInt8 := dkwX0_tell_4 ++ dktX0_tell_5
def dkwX0_tell_3 : List UInt8 := [5, 162, 0, 7, 4, 167, 0, 4, 3, 61, 132, 3, 3, 167, 255, 203, 28, 154, 0, 9, 42, 4]
abbrev dktX0_tell_3 : List UInt8 := dkwX0_tell_3 ++ dktX0_tell_4
def dkwX0_tell_2 : List UInt8 := [162, 0, 32, 42, 42, 29, 4, 96, 182, 1, 60, 182, 0, 226, 153, 0, 18, 42, 29, 5, 96, 182, 1, 60]
abbrev dktX0_tell_2 : List UInt8 := dkwX0_tell_2 ++ dktX0_tell_3
def dkwX0_tell_1 : List UInt8 := [167, 0, 4, 3, 61, 3, 62, 29, 27, 162, 0, 54, 28, 153, 0, 50, 42, 29, 182, 1, 60, 16, 24]
abbrev dktX0_tell_1 : List UInt8 := dkwX0_tell_1 ++ dktX0_tell_2
def dkwX0_tell_0 : List UInt8 := [42, 182, 0, 118, 60, 27, 158, 0, 19, 27, 6, 112, 154, 0, 13, 27, 16, 48, 163, 0, 7, 4]
abbrev dktX0_tell_0 : List UInt8 := dkwX0_tell_0 ++ dktX0_tell_1
theorem dksX0_tell_0 : cX0_tell.data.toList.drop 0 = dktX0_tell_0 := by decide +kernel
theorem dksX0_tell_1 : cX0_tell.data.toList.drop 22 = dktX0_tell_1 := dk_seg dksX0_tell_0 22 rfl rfl
theorem dksX0_tell_2 : cX0_tell.data.toList.drop 45 = dktX0_tell_2 := dk_seg dksX0_tell_1 23 rfl rfl
theorem dksX0_tell_3 : cX0_tell.data.toList.drop 69 = dktX0_tell_3 := dk_seg dksX0_tell_2 24 rfl rfl
theorem dksX0_tell_4 : cX0_tell.data.toList.drop 91 = dktX0_tell_4 := dk_seg dksX0_tell_3 22 rfl rfl
theorem dksX0_tell_5 : cX0_tell.data.toList.drop 113 = dktX0_tell_5 := dk_seg dksX0_tell_4 22 rfl rfl
theorem dksX0_tell_6 : cX0_tell.data.toList.drop 136 = dktX0_tell_6 := dk_seg dksX0_tell_5 23 rfl rfl
theorem dksX0_tell_7 : cX0_tell.data.toList.drop 159 = dktX0_tell_7 := dk_seg dksX0_tell_6 23 rfl rfl
theorem dX0_tell_0 : decode cX0_tell 0 = .ok (.aload_n 0, 1) := dk_42 (dk_at dksX0_tell_0 0 rfl rfl)
theorem dX0_tell_1 : decode cX0_tell 1 = .ok (.invokevirtual 118, 3) := dk_182 0 118 (dk_at dksX0_tell_0 1 rfl rfl)
theorem dX0_tell_4 : decode cX0_tell 4 = .ok (.istore_n 1, 1) := dk_60 (dk_at dksX0_tell_0 4 rfl rfl)
theorem dX0_tell_5 : decode cX0_tell 5 = .ok (.iload_n 1, 1) := dk_27 (dk_at dksX0_tell_0 5 rfl rfl)
theorem dX0_tell_6 : decode cX0_tell 6 = .ok (.ifCond .le 19, 3) := dk_158 0 19 (dk_at dksX0_tell_0 6 rfl rfl)
theorem dX0_tell_9 : decode cX0_tell 9 = .ok (.iload_n 1, 1) := dk_27 (dk_at dksX0_tell_0 9 rfl rfl)
theorem dX0_tell_10 : decode cX0_tell 10 = .ok (.iconst 3, 1) := dk_6 (dk_at dksX0_tell_0 10 rfl rfl)
theorem dX0_tell_11 : decode cX0_tell 11 = .ok (.irem, 1) := dk_112 (dk_at dksX0_tell_0 11 rfl rfl)
theorem dX0_tell_12 : decode cX0_tell 12 = .ok (.ifCond .ne 13, 3) := dk_154 0 13 (dk_at dksX0_tell_0 12 rfl rfl)
theorem dX0_tell_15 : decode cX0_tell 15 = .ok (.iload_n 1, 1) := dk_27 (dk_at dksX0_tell_0 15 rfl rfl)
theorem dX0_tell_16 : decode cX0_tell 16 = .ok (.bipush 48, 2) := dk_16 48 (dk_at dksX0_tell_0 16 rfl rfl)
theorem dX0_tell_18 : decode cX0_tell 18 = .ok (.if_icmp .gt 7, 3) := dk_163 0 7 (dk_at dksX0_tell_0 18 rfl rfl)
theorem dX0_tell_21 : decode cX0_tell 21 = .ok (.iconst 1, 1) := dk_4 (dk_at dksX0_tell_0 21 rfl rfl)
theorem dX0_tell_22 : decode cX0_tell 22 = .ok (.goto 4, 3) := dk_167 0 4 (dk_at dksX0_tell_1 0 rfl rfl)
theorem dX0_tell_25 : decode cX0_tell 25 = .ok (.iconst 0, 1) := dk_3 (dk_at dksX0_tell_1 3 rfl rfl)
theorem dX0_tell_26 : decode cX0_tell 26 = .ok (.istore_n 2, 1) := dk_61 (dk_at dksX0_tell_1 4 rfl rfl)
theorem dX0_tell_27 : decode cX0_tell 27 = .ok (.iconst 0, 1) := dk_3 (dk_at dksX0_tell_1 5 rfl rfl)
theorem dX0_tell_28 : decode cX0_tell 28 = .ok (.istore_n 3, 1) := dk_62 (dk_at dksX0_tell_1 6 rfl rfl)
theorem dX0_tell_29 : decode cX0_tell 29 = .ok (.iload_n 3, 1) := dk_29 (dk_at dksX0_tell_1 7 rfl rfl)
theorem dX0_tell_30 : decode cX0_tell 30 = .ok (.iload_n 1, 1) := dk_27 (dk_at dksX0_tell_1 8 rfl rfl)
theorem dX0_tell_31 : decode cX0_tell 31 = .ok (.if_icmp .ge 54, 3) := dk_162 0 54 (dk_at dksX0_tell_1 9 rfl rfl)
theorem dX0_tell_34 : decode cX0_tell 34 = .ok (.iload_n 2, 1) := dk_28 (dk_at dksX0_tell_1 12 rfl rfl)
theorem dX0_tell_35 : decode cX0_tell 35 = .ok (.ifCond .eq 50, 3) := dk_153 0 50 (dk_at dksX0_tell_1 13 rfl rfl)
theorem dX0_tell_38 : decode cX0_tell 38 = .ok (.aload_n 0, 1) := dk_42 (dk_at dksX0_tell_1 16 rfl rfl)
theorem dX0_tell_39 : decode cX0_tell 39 = .ok (.iload_n 3, 1) := dk_29 (dk_at dksX0_tell_1 17 rfl rfl)
theorem dX0_tell_40 : decode cX0_tell 40 = .ok (.invokevirtual 316, 3) := dk_182 1 60 (dk_at dksX0_tell_1 18 rfl rfl)
theorem dX0_tell_43 : decode cX0_tell 43 = .ok (.bipush 24, 2) := dk_16 24 (dk_at dksX0_tell_1 21 rfl rfl)
theorem dX0_tell_45 : decode cX0_tell 45 = .ok (.if_icmp .ge 32, 3) := dk_162 0 32 (dk_at dksX0_tell_2 0 rfl rfl)
theorem dX0_tell_48 : decode cX0_tell 48 = .ok (.aload_n 0, 1) := dk_42 (dk_at dksX0_tell_2 3 rfl rfl)
theorem dX0_tell_49 : decode cX0_tell 49 = .ok (.aload_n 0, 1) := dk_42 (dk_at dksX0_tell_2 4 rfl rfl)
theorem dX0_tell_50 : decode cX0_tell 50 = .ok (.iload_n 3, 1) := dk_29 (dk_at dksX0_tell_2 5 rfl rfl)
theorem dX0_tell_51 : decode cX0_tell 51 = .ok (.iconst 1, 1) := dk_4 (dk_at dksX0_tell_2 6 rfl rfl)
theorem dX0_tell_52 : decode cX0_tell 52 = .ok (.iadd, 1) := dk_96 (dk_at dksX0_tell_2 7 rfl rfl)
theorem dX0_tell_53 : decode cX0_tell 53 = .ok (.invokevirtual 316, 3) := dk_182 1 60 (dk_at dksX0_tell_2 8 rfl rfl)
theorem dX0_tell_56 : decode cX0_tell 56 = .ok (.invokevirtual 226, 3) := dk_182 0 226 (dk_at dksX0_tell_2 11 rfl rfl)
theorem dX0_tell_59 : decode cX0_tell 59 = .ok (.ifCond .eq 18, 3) := dk_153 0 18 (dk_at dksX0_tell_2 14 rfl rfl)
theorem dX0_tell_62 : decode cX0_tell 62 = .ok (.aload_n 0, 1) := dk_42 (dk_at dksX0_tell_2 17 rfl rfl)
theorem dX0_tell_63 : decode cX0_tell 63 = .ok (.iload_n 3, 1) := dk_29 (dk_at dksX0_tell_2 18 rfl rfl)
theorem dX0_tell_64 : decode cX0_tell 64 = .ok (.iconst 2, 1) := dk_5 (dk_at dksX0_tell_2 19 rfl rfl)
theorem dX0_tell_65 : decode cX0_tell 65 = .ok (.iadd, 1) := dk_96 (dk_at dksX0_tell_2 20 rfl rfl)
theorem dX0_tell_66 : decode cX0_tell 66 = .ok (.invokevirtual 316, 3) := dk_182 1 60 (dk_at dksX0_tell_2 21 rfl rfl)
theorem dX0_tell_69 : decode cX0_tell 69 = .ok (.iconst 2, 1) := dk_5 (dk_at dksX0_tell_3 0 rfl rfl)
theorem dX0_tell_70 : decode cX0_tell 70 = .ok (.if_icmp .ge 7, 3) := dk_162 0 7 (dk_at dksX0_tell_3 1 rfl rfl)
theorem dX0_tell_73 : decode cX0_tell 73 = .ok (.iconst 1, 1) := dk_4 (dk_at dksX0_tell_3 4 rfl rfl)
theorem dX0_tell_74 : decode cX0_tell 74 = .ok (.goto 4, 3) := dk_167 0 4 (dk_at dksX0_tell_3 5 rfl rfl)
theorem dX0_tell_77 : decode cX0_tell 77 = .ok (.iconst 0, 1) := dk_3 (dk_at dksX0_tell_3 8 rfl rfl)
theorem dX0_tell_78 : decode cX0_tell 78 = .ok (.istore_n 2, 1) := dk_61 (dk_at dksX0_tell_3 9 rfl rfl)
theorem dX0_tell_79 : decode cX0_tell 79 = .ok (.iinc 3 3, 3) := dk_132 3 3 (dk_at dksX0_tell_3 10 rfl rfl)
theorem dX0_tell_82 : decode cX0_tell 82 = .ok (.goto (-53), 3) := dk_167 255 203 (dk_at dksX0_tell_3 13 rfl rfl)
theorem dX0_tell_85 : decode cX0_tell 85 = .ok (.iload_n 2, 1) := dk_28 (dk_at dksX0_tell_3 16 rfl rfl)
theorem dX0_tell_86 : decode cX0_tell 86 = .ok (.ifCond .ne 9, 3) := dk_154 0 9 (dk_at dksX0_tell_3 17 rfl rfl)
theorem dX0_tell_89 : decode cX0_tell 89 = .ok (.aload_n 0, 1) := dk_42 (dk_at dksX0_tell_3 20 rfl rfl)
theorem dX0_tell_90 : decode cX0_tell 90 = .ok (.iconst 1, 1) := dk_4 (dk_at dksX0_tell_3 21 rfl rfl)
theorem dX0_tell_91 : decode cX0_tell 91 = .ok (.invokevirtual 107, 3) := dk_182 0 107 (dk_at dksX0_tell_4 0 rfl rfl)
theorem dX0_tell_94 : decode cX0_tell 94 = .ok (.ireturn, 1) := dk_172 (dk_at dksX0_tell_4 3 rfl rfl)
theorem dX0_tell_95 : decode cX0_tell 95 = .ok (.aload_n 0, 1) := dk_42 (dk_at dksX0_tell_4 4 rfl rfl)
theorem dX0_tell_96 : decode cX0_tell 96 = .ok (.iload_n 1, 1) := dk_27 (dk_at dksX0_tell_4 5 rfl rfl)
theorem dX0_tell_97 : decode cX0_tell 97 = .ok (.iconst 3, 1) := dk_6 (dk_at dksX0_tell_4 6 rfl rfl)
theorem dX0_tell_98 : decode cX0_tell 98 = .ok (.idiv, 1) := dk_108 (dk_at dksX0_tell_4 7 rfl rfl)
theorem dX0_tell_99 : decode cX0_tell 99 = .ok (.putfield 140, 3) := dk_181 0 140 (dk_at dksX0_tell_4 8 rfl rfl)
theorem dX0_tell_102 : decode cX0_tell 102 = .ok (.iconst 0, 1) := dk_3 (dk_at dksX0_tell_4 11 rfl rfl)
theorem dX0_tell_103 : decode cX0_tell 103 = .ok (.istore_n 3, 1) := dk_62 (dk_at dksX0_tell_4 12 rfl rfl)
theorem dX0_tell_104 : decode cX0_tell 104 = .ok (.iload_n 3, 1) := dk_29 (dk_at dksX0_tell_4 13 rfl rfl)
theorem dX0_tell_105 : decode cX0_tell 105 = .ok (.aload_n 0, 1) := dk_42 (dk_at dksX0_tell_4 14 rfl rfl)
theorem dX0_tell_106 : decode cX0_tell 106 = .ok (.getfield 140, 3) := dk_180 0 140 (dk_at dksX0_tell_4 15 rfl rfl)
theorem dX0_tell_109 : decode cX0_tell 109 = .ok (.if_icmp .ge 61, 3) := dk_162 0 61 (dk_at dksX0_tell_4 18 rfl rfl)
theorem dX0_tell_112 : decode cX0_tell 112 = .ok (.aload_n 0, 1) := dk_42 (dk_at dksX0_tell_4 21 rfl rfl)
theorem dX0_tell_113 : decode cX0_tell 113 = .ok (.getfield 83, 3) := dk_180 0 83 (dk_at dksX0_tell_5 0 rfl rfl)
theorem dX0_tell_116 : decode cX0_tell 116 = .ok (.iload_n 3, 1) := dk_29 (dk_at dksX0_tell_5 3 rfl rfl)
theorem dX0_tell_117 : decode cX0_tell 117 = .ok (.aload_n 0, 1) := dk_42 (dk_at dksX0_tell_5 4 rfl rfl)
theorem dX0_tell_118 : decode cX0_tell 118 = .ok (.iconst 3, 1) := dk_6 (dk_at dksX0_tell_5 5 rfl rfl)
theorem dX0_tell_119 : decode cX0_tell 119 = .ok (.iload_n 3, 1) := dk_29 (dk_at dksX0_tell_5 6 rfl rfl)
theorem dX0_tell_120 : decode cX0_tell 120 = .ok (.imul, 1) := dk_104 (dk_at dksX0_tell_5 7 rfl rfl)
theorem dX0_tell_121 : decode cX0_tell 121 = .ok (.invokevirtual 316, 3) := dk_182 1 60 (dk_at dksX0_tell_5 8 rfl rfl)
theorem dX0_tell_124 : decode cX0_tell 124 = .ok (.iastore, 1) := dk_79 (dk_at dksX0_tell_5 11 rfl rfl)
theorem dX0_tell_125 : decode cX0_tell 125 = .ok (.aload_n 0, 1) := dk_42 (dk_at dksX0_tell_5 12 rfl rfl)
theorem dX0_tell_126 : decode cX0_tell 126 = .ok (.getfield 86, 3) := dk_180 0 86 (dk_at dksX0_tell_5 13 rfl rfl)
theorem dX0_tell_129 : decode cX0_tell 129 = .ok (.iload_n 3, 1) := dk_29 (dk_at dksX0_tell_5 16 rfl rfl)
theorem dX0_tell_130 : decode cX0_tell 130 = .ok (.aload_n 0, 1) := dk_42 (dk_at dksX0_tell_5 17 rfl rfl)
theorem dX0_tell_131 : decode cX0_tell 131 = .ok (.iconst 3, 1) := dk_6 (dk_at dksX0_tell_5 18 rfl rfl)
theorem dX0_tell_132 : decode cX0_tell 132 = .ok (.iload_n 3, 1) := dk_29 (dk_at dksX0_tell_5 19 rfl rfl)
theorem dX0_tell_133 : decode cX0_tell 133 = .ok (.imul, 1) := dk_104 (dk_at dksX0_tell_5 20 rfl rfl)
theorem dX0_tell_134 : decode cX0_tell 134 = .ok (.iconst 1, 1) := dk_4 (dk_at dksX0_tell_5 21 rfl rfl)
theorem dX0_tell_135 : decode cX0_tell 135 = .ok (.iadd, 1) := dk_96 (dk_at dksX0_tell_5 22 rfl rfl)
theorem dX0_tell_136 : decode cX0_tell 136 = .ok (.invokevirtual 316, 3) := dk_182 1 60 (dk_at dksX0_tell_6 0 rfl rfl)
theorem dX0_tell_139 : decode cX0_tell 139 = .ok (.iastore, 1) := dk_79 (dk_at dksX0_tell_6 3 rfl rfl)
theorem dX0_tell_140 : decode cX0_tell 140 = .ok (.aload_n 0, 1) := dk_42 (dk_at dksX0_tell_6 4 rfl rfl)
theorem dX0_tell_141 : decode cX0_tell 141 = .ok (.getfield 89, 3) := dk_180 0 89 (dk_at dksX0_tell_6 5 rfl rfl)
theorem dX0_tell_144 : decode cX0_tell 144 = .ok (.iload_n 3, 1) := dk_29 (dk_at dksX0_tell_6 8 rfl rfl)
theorem dX0_tell_145 : decode cX0_tell 145 = .ok (.aload_n 0, 1) := dk_42 (dk_at dksX0_tell_6 9 rfl rfl)
theorem dX0_tell_146 : decode cX0_tell 146 = .ok (.iconst 3, 1) := dk_6 (dk_at dksX0_tell_6 10 rfl rfl)
theorem dX0_tell_147 : decode cX0_tell 147 = .ok (.iload_n 3, 1) := dk_29 (dk_at dksX0_tell_6 11 rfl rfl)
theorem dX0_tell_148 : decode cX0_tell 148 = .ok (.imul, 1) := dk_104 (dk_at dksX0_tell_6 12 rfl rfl)
theorem dX0_tell_149 : decode cX0_tell 149 = .ok (.iconst 2, 1) := dk_5 (dk_at dksX0_tell_6 13 rfl rfl)
theorem dX0_tell_150 : decode cX0_tell 150 = .ok (.iadd, 1) := dk_96 (dk_at dksX0_tell_6 14 rfl rfl)
theorem dX0_tell_151 : decode cX0_tell 151 = .ok (.invokevirtual 316, 3) := dk_182 1 60 (dk_at dksX0_tell_6 15 rfl rfl)
theorem dX0_tell_154 : decode cX0_tell 154 = .ok (.iconst 1, 1) := dk_4 (dk_at dksX0_tell_6 18 rfl rfl)
theorem dX0_tell_155 : decode cX0_tell 155 = .ok (.if_icmp .ne 7, 3) := dk_160 0 7 (dk_at dksX0_tell_6 19 rfl rfl)
theorem dX0_tell_158 : decode cX0_tell 158 = .ok (.iconst 1, 1) := dk_4 (dk_at dksX0_tell_6 22 rfl rfl)
theorem dX0_tell_159 : decode cX0_tell 159 = .ok (.goto 4, 3) := dk_167 0 4 (dk_at dksX0_tell_7 0 rfl rfl)
theorem dX0_tell_162 : decode cX0_tell 162 = .ok (.iconst 0, 1) := dk_3 (dk_at dksX0_tell_7 3 rfl rfl)
theorem dX0_tell_163 : decode cX0_tell 163 = .ok (.bastore, 1) := dk_84 (dk_at dksX0_tell_7 4 rfl rfl)
theorem dX0_tell_164 : decode cX0_tell 164 = .ok (.iinc 3 1, 3) := dk_132 3 1 (dk_at dksX0_tell_7 5 rfl rfl)
theorem dX0_tell_167 : decode cX0_tell 167 = .ok (.goto (-63), 3) := dk_167 255 193 (dk_at dksX0_tell_7 8 rfl rfl)
theorem dX0_tell_170 : decode cX0_tell 170 = .ok (.aload_n 0, 1) := dk_42 (dk_at dksX0_tell_7 11 rfl rfl)
theorem dX0_tell_171 : decode cX0_tell 171 = .ok (.getfield 140, 3) := dk_180 0 140 (dk_at dksX0_tell_7 12 rfl rfl)
theorem dX0_tell_174 : decode cX0_tell 174 = .ok (.ireturn, 1) := dk_172 (dk_at dksX0_tell_7 15 rfl rfl)
abbrev cX0_byteAt : ByteArray := prog_1_method_49_code
def yX0_byteAt : MethodName := ⟨RX0, "byteAt", "(I)I"⟩
def dkwX0_byteAt_0 : List UInt8 := [42, 180, 0, 37, 27, 51, 17, 0, 255, 126, 172]
abbrev dktX0_byteAt_0 : List UInt8 := dkwX0_byteAt_0 ++ []
theorem dksX0_byteAt_0 : cX0_byteAt.data.toList.drop 0 = dktX0_byteAt_0 := by decide +kernel
theorem dX0_byteAt_0 : decode cX0_byteAt 0 = .ok (.aload_n 0, 1) := dk_42 (dk_at dksX0_byteAt_0 0 rfl rfl)
theorem dX0_byteAt_1 : decode cX0_byteAt 1 = .ok (.getfield 37, 3) := dk_180 0 37 (dk_at dksX0_byteAt_0 1 rfl rfl)
theorem dX0_byteAt_4 : decode cX0_byteAt 4 = .ok (.iload_n 1, 1) := dk_27 (dk_at dksX0_byteAt_0 4 rfl rfl)
theorem dX0_byteAt_5 : decode cX0_byteAt 5 = .ok (.baload, 1) := dk_51 (dk_at dksX0_byteAt_0 5 rfl rfl)
theorem dX0_byteAt_6 : decode cX0_byteAt 6 = .ok (.sipush 255, 3) := dk_17 0 255 (dk_at dksX0_byteAt_0 6 rfl rfl)
theorem dX0_byteAt_9 : decode cX0_byteAt 9 = .ok (.iand, 1) := dk_126 (dk_at dksX0_byteAt_0 9 rfl rfl)
theorem dX0_byteAt_10 : decode cX0_byteAt 10 = .ok (.ireturn, 1) := dk_172 (dk_at dksX0_byteAt_0 10 rfl rfl)
abbrev cX0_pressed : ByteArray := prog_1_method_53_code
def yX0_pressed : MethodName := ⟨RX0, "pressed", "(I)I"⟩
def dkwX0_pressed_4 : List UInt8 := [154, 0, 7, 28, 167, 0, 14, 27, 4, 160, 0, 7, 29, 167, 0, 5, 21, 4, 172]
abbrev dktX0_pressed_4 : List UInt8 := dkwX0_pressed_4 ++ []
def dkwX0_pressed_3 : List UInt8 := [29, 21, 5, 126, 62, 21, 4, 21, 5, 128, 54, 4, 132, 2, 1, 132, 5, 1, 167, 255, 206, 27]
abbrev dktX0_pressed_3 : List UInt8 := dkwX0_pressed_3 ++ dktX0_pressed_4
def dkwX0_pressed_2 : List UInt8 := [162, 0, 45, 42, 21, 5, 182, 1, 71, 154, 0, 6, 167, 0, 27, 28, 154, 0, 8, 21, 5, 167, 0, 7]
abbrev dktX0_pressed_2 : List UInt8 := dkwX0_pressed_2 ++ dktX0_pressed_3
def dkwX0_pressed_1 : List UInt8 := [154, 0, 5, 2, 172, 3, 61, 3, 62, 3, 54, 4, 3, 54, 5, 21, 5, 4, 42, 182, 0, 165, 120]
abbrev dktX0_pressed_1 : List UInt8 := dkwX0_pressed_1 ++ dktX0_pressed_2
def dkwX0_pressed_0 : List UInt8 := [27, 3, 5, 184, 0, 185, 153, 0, 19, 42, 42, 182, 1, 65, 4, 96, 3, 16, 24, 182, 1, 3]
abbrev dktX0_pressed_0 : List UInt8 := dkwX0_pressed_0 ++ dktX0_pressed_1
theorem dksX0_pressed_0 : cX0_pressed.data.toList.drop 0 = dktX0_pressed_0 := by decide +kernel
theorem dksX0_pressed_1 : cX0_pressed.data.toList.drop 22 = dktX0_pressed_1 := dk_seg dksX0_pressed_0 22 rfl rfl
theorem dksX0_pressed_2 : cX0_pressed.data.toList.drop 45 = dktX0_pressed_2 := dk_seg dksX0_pressed_1 23 rfl rfl
theorem dksX0_pressed_3 : cX0_pressed.data.toList.drop 69 = dktX0_pressed_3 := dk_seg dksX0_pressed_2 24 rfl rfl
theorem dksX0_pressed_4 : cX0_pressed.data.toList.drop 91 = dktX0_pressed_4 := dk_seg dksX0_pressed_3 22 rfl rfl
theorem dX0_pressed_0 : decode cX0_pressed 0 = .ok (.iload_n 1, 1) := dk_27 (dk_at dksX0_pressed_0 0 rfl rfl)
theorem dX0_pressed_1 : decode cX0_pressed 1 = .ok (.iconst 0, 1) := dk_3 (dk_at dksX0_pressed_0 1 rfl rfl)
theorem dX0_pressed_2 : decode cX0_pressed 2 = .ok (.iconst 2, 1) := dk_5 (dk_at dksX0_pressed_0 2 rfl rfl)
theorem dX0_pressed_3 : decode cX0_pressed 3 = .ok (.invokestatic 185, 3) := dk_184 0 185 (dk_at dksX0_pressed_0 3 rfl rfl)
theorem dX0_pressed_6 : decode cX0_pressed 6 = .ok (.ifCond .eq 19, 3) := dk_153 0 19 (dk_at dksX0_pressed_0 6 rfl rfl)
theorem dX0_pressed_9 : decode cX0_pressed 9 = .ok (.aload_n 0, 1) := dk_42 (dk_at dksX0_pressed_0 9 rfl rfl)
theorem dX0_pressed_10 : decode cX0_pressed 10 = .ok (.aload_n 0, 1) := dk_42 (dk_at dksX0_pressed_0 10 rfl rfl)
theorem dX0_pressed_11 : decode cX0_pressed 11 = .ok (.invokevirtual 321, 3) := dk_182 1 65 (dk_at dksX0_pressed_0 11 rfl rfl)
theorem dX0_pressed_14 : decode cX0_pressed 14 = .ok (.iconst 1, 1) := dk_4 (dk_at dksX0_pressed_0 14 rfl rfl)
theorem dX0_pressed_15 : decode cX0_pressed 15 = .ok (.iadd, 1) := dk_96 (dk_at dksX0_pressed_0 15 rfl rfl)
theorem dX0_pressed_16 : decode cX0_pressed 16 = .ok (.iconst 0, 1) := dk_3 (dk_at dksX0_pressed_0 16 rfl rfl)
theorem dX0_pressed_17 : decode cX0_pressed 17 = .ok (.bipush 24, 2) := dk_16 24 (dk_at dksX0_pressed_0 17 rfl rfl)
theorem dX0_pressed_19 : decode cX0_pressed 19 = .ok (.invokevirtual 259, 3) := dk_182 1 3 (dk_at dksX0_pressed_0 19 rfl rfl)
theorem dX0_pressed_22 : decode cX0_pressed 22 = .ok (.ifCond .ne 5, 3) := dk_154 0 5 (dk_at dksX0_pressed_1 0 rfl rfl)
theorem dX0_pressed_25 : decode cX0_pressed 25 = .ok (.iconst (-1), 1) := dk_2 (dk_at dksX0_pressed_1 3 rfl rfl)
theorem dX0_pressed_26 : decode cX0_pressed 26 = .ok (.ireturn, 1) := dk_172 (dk_at dksX0_pressed_1 4 rfl rfl)
theorem dX0_pressed_27 : decode cX0_pressed 27 = .ok (.iconst 0, 1) := dk_3 (dk_at dksX0_pressed_1 5 rfl rfl)
theorem dX0_pressed_28 : decode cX0_pressed 28 = .ok (.istore_n 2, 1) := dk_61 (dk_at dksX0_pressed_1 6 rfl rfl)
theorem dX0_pressed_29 : decode cX0_pressed 29 = .ok (.iconst 0, 1) := dk_3 (dk_at dksX0_pressed_1 7 rfl rfl)
theorem dX0_pressed_30 : decode cX0_pressed 30 = .ok (.istore_n 3, 1) := dk_62 (dk_at dksX0_pressed_1 8 rfl rfl)
theorem dX0_pressed_31 : decode cX0_pressed 31 = .ok (.iconst 0, 1) := dk_3 (dk_at dksX0_pressed_1 9 rfl rfl)
theorem dX0_pressed_32 : decode cX0_pressed 32 = .ok (.istore 4, 2) := dk_54 4 (dk_at dksX0_pressed_1 10 rfl rfl)
theorem dX0_pressed_34 : decode cX0_pressed 34 = .ok (.iconst 0, 1) := dk_3 (dk_at dksX0_pressed_1 12 rfl rfl)
theorem dX0_pressed_35 : decode cX0_pressed 35 = .ok (.istore 5, 2) := dk_54 5 (dk_at dksX0_pressed_1 13 rfl rfl)
theorem dX0_pressed_37 : decode cX0_pressed 37 = .ok (.iload 5, 2) := dk_21 5 (dk_at dksX0_pressed_1 15 rfl rfl)
theorem dX0_pressed_39 : decode cX0_pressed 39 = .ok (.iconst 1, 1) := dk_4 (dk_at dksX0_pressed_1 17 rfl rfl)
theorem dX0_pressed_40 : decode cX0_pressed 40 = .ok (.aload_n 0, 1) := dk_42 (dk_at dksX0_pressed_1 18 rfl rfl)
theorem dX0_pressed_41 : decode cX0_pressed 41 = .ok (.invokevirtual 165, 3) := dk_182 0 165 (dk_at dksX0_pressed_1 19 rfl rfl)
theorem dX0_pressed_44 : decode cX0_pressed 44 = .ok (.ishl, 1) := dk_120 (dk_at dksX0_pressed_1 22 rfl rfl)
theorem dX0_pressed_45 : decode cX0_pressed 45 = .ok (.if_icmp .ge 45, 3) := dk_162 0 45 (dk_at dksX0_pressed_2 0 rfl rfl)
theorem dX0_pressed_48 : decode cX0_pressed 48 = .ok (.aload_n 0, 1) := dk_42 (dk_at dksX0_pressed_2 3 rfl rfl)
theorem dX0_pressed_49 : decode cX0_pressed 49 = .ok (.iload 5, 2) := dk_21 5 (dk_at dksX0_pressed_2 4 rfl rfl)
theorem dX0_pressed_51 : decode cX0_pressed 51 = .ok (.invokevirtual 327, 3) := dk_182 1 71 (dk_at dksX0_pressed_2 6 rfl rfl)
theorem dX0_pressed_54 : decode cX0_pressed 54 = .ok (.ifCond .ne 6, 3) := dk_154 0 6 (dk_at dksX0_pressed_2 9 rfl rfl)
theorem dX0_pressed_57 : decode cX0_pressed 57 = .ok (.goto 27, 3) := dk_167 0 27 (dk_at dksX0_pressed_2 12 rfl rfl)
theorem dX0_pressed_60 : decode cX0_pressed 60 = .ok (.iload_n 2, 1) := dk_28 (dk_at dksX0_pressed_2 15 rfl rfl)
theorem dX0_pressed_61 : decode cX0_pressed 61 = .ok (.ifCond .ne 8, 3) := dk_154 0 8 (dk_at dksX0_pressed_2 16 rfl rfl)
theorem dX0_pressed_64 : decode cX0_pressed 64 = .ok (.iload 5, 2) := dk_21 5 (dk_at dksX0_pressed_2 19 rfl rfl)
theorem dX0_pressed_66 : decode cX0_pressed 66 = .ok (.goto 7, 3) := dk_167 0 7 (dk_at dksX0_pressed_2 21 rfl rfl)
theorem dX0_pressed_69 : decode cX0_pressed 69 = .ok (.iload_n 3, 1) := dk_29 (dk_at dksX0_pressed_3 0 rfl rfl)
theorem dX0_pressed_70 : decode cX0_pressed 70 = .ok (.iload 5, 2) := dk_21 5 (dk_at dksX0_pressed_3 1 rfl rfl)
theorem dX0_pressed_72 : decode cX0_pressed 72 = .ok (.iand, 1) := dk_126 (dk_at dksX0_pressed_3 3 rfl rfl)
theorem dX0_pressed_73 : decode cX0_pressed 73 = .ok (.istore_n 3, 1) := dk_62 (dk_at dksX0_pressed_3 4 rfl rfl)
theorem dX0_pressed_74 : decode cX0_pressed 74 = .ok (.iload 4, 2) := dk_21 4 (dk_at dksX0_pressed_3 5 rfl rfl)
theorem dX0_pressed_76 : decode cX0_pressed 76 = .ok (.iload 5, 2) := dk_21 5 (dk_at dksX0_pressed_3 7 rfl rfl)
theorem dX0_pressed_78 : decode cX0_pressed 78 = .ok (.ior, 1) := dk_128 (dk_at dksX0_pressed_3 9 rfl rfl)
theorem dX0_pressed_79 : decode cX0_pressed 79 = .ok (.istore 4, 2) := dk_54 4 (dk_at dksX0_pressed_3 10 rfl rfl)
theorem dX0_pressed_81 : decode cX0_pressed 81 = .ok (.iinc 2 1, 3) := dk_132 2 1 (dk_at dksX0_pressed_3 12 rfl rfl)
theorem dX0_pressed_84 : decode cX0_pressed 84 = .ok (.iinc 5 1, 3) := dk_132 5 1 (dk_at dksX0_pressed_3 15 rfl rfl)
theorem dX0_pressed_87 : decode cX0_pressed 87 = .ok (.goto (-50), 3) := dk_167 255 206 (dk_at dksX0_pressed_3 18 rfl rfl)
theorem dX0_pressed_90 : decode cX0_pressed 90 = .ok (.iload_n 1, 1) := dk_27 (dk_at dksX0_pressed_3 21 rfl rfl)
theorem dX0_pressed_91 : decode cX0_pressed 91 = .ok (.ifCond .ne 7, 3) := dk_154 0 7 (dk_at dksX0_pressed_4 0 rfl rfl)
theorem dX0_pressed_94 : decode cX0_pressed 94 = .ok (.iload_n 2, 1) := dk_28 (dk_at dksX0_pressed_4 3 rfl rfl)
theorem dX0_pressed_95 : decode cX0_pressed 95 = .ok (.goto 14, 3) := dk_167 0 14 (dk_at dksX0_pressed_4 4 rfl rfl)
theorem dX0_pressed_98 : decode cX0_pressed 98 = .ok (.iload_n 1, 1) := dk_27 (dk_at dksX0_pressed_4 7 rfl rfl)
theorem dX0_pressed_99 : decode cX0_pressed 99 = .ok (.iconst 1, 1) := dk_4 (dk_at dksX0_pressed_4 8 rfl rfl)
theorem dX0_pressed_100 : decode cX0_pressed 100 = .ok (.if_icmp .ne 7, 3) := dk_160 0 7 (dk_at dksX0_pressed_4 9 rfl rfl)
theorem dX0_pressed_103 : decode cX0_pressed 103 = .ok (.iload_n 3, 1) := dk_29 (dk_at dksX0_pressed_4 12 rfl rfl)
theorem dX0_pressed_104 : decode cX0_pressed 104 = .ok (.goto 5, 3) := dk_167 0 5 (dk_at dksX0_pressed_4 13 rfl rfl)
theorem dX0_pressed_107 : decode cX0_pressed 107 = .ok (.iload 4, 2) := dk_21 4 (dk_at dksX0_pressed_4 16 rfl rfl)
theorem dX0_pressed_109 : decode cX0_pressed 109 = .ok (.ireturn, 1) := dk_172 (dk_at dksX0_pressed_4 18 rfl rfl)
abbrev cX0_lastHour : ByteArray := prog_1_method_51_code
def yX0_lastHour : MethodName := ⟨RX0, "lastHour", "()I"⟩
def dkwX0_lastHour_1 : List UInt8 := [132, 2, 1, 167, 255, 234, 27, 172]
abbrev dktX0_lastHour_1 : List UInt8 := dkwX0_lastHour_1 ++ []
def dkwX0_lastHour_0 : List UInt8 := [2, 60, 3, 61, 28, 42, 180, 0, 140, 162, 0, 20, 27, 42, 180, 0, 83, 28, 46, 184, 1, 63, 60]
abbrev dktX0_lastHour_0 : List UInt8 := dkwX0_lastHour_0 ++ dktX0_lastHour_1
theorem dksX0_lastHour_0 : cX0_lastHour.data.toList.drop 0 = dktX0_lastHour_0 := by decide +kernel
theorem dksX0_lastHour_1 : cX0_lastHour.data.toList.drop 23 = dktX0_lastHour_1 := dk_seg dksX0_lastHour_0 23 rfl rfl
theorem dX0_lastHour_0 : decode cX0_lastHour 0 = .ok (.iconst (-1), 1) := dk_2 (dk_at dksX0_lastHour_0 0 rfl rfl)
theorem dX0_lastHour_1 : decode cX0_lastHour 1 = .ok (.istore_n 1, 1) := dk_60 (dk_at dksX0_lastHour_0 1 rfl rfl)
theorem dX0_lastHour_2 : decode cX0_lastHour 2 = .ok (.iconst 0, 1) := dk_3 (dk_at dksX0_lastHour_0 2 rfl rfl)
theorem dX0_lastHour_3 : decode cX0_lastHour 3 = .ok (.istore_n 2, 1) := dk_61 (dk_at dksX0_lastHour_0 3 rfl rfl)
theorem dX0_lastHour_4 : decode cX0_lastHour 4 = .ok (.iload_n 2, 1) := dk_28 (dk_at dksX0_lastHour_0 4 rfl rfl)
theorem dX0_lastHour_5 : decode cX0_lastHour 5 = .ok (.aload_n 0, 1) := dk_42 (dk_at dksX0_lastHour_0 5 rfl rfl)
theorem dX0_lastHour_6 : decode cX0_lastHour 6 = .ok (.getfield 140, 3) := dk_180 0 140 (dk_at dksX0_lastHour_0 6 rfl rfl)
theorem dX0_lastHour_9 : decode cX0_lastHour 9 = .ok (.if_icmp .ge 20, 3) := dk_162 0 20 (dk_at dksX0_lastHour_0 9 rfl rfl)
theorem dX0_lastHour_12 : decode cX0_lastHour 12 = .ok (.iload_n 1, 1) := dk_27 (dk_at dksX0_lastHour_0 12 rfl rfl)
theorem dX0_lastHour_13 : decode cX0_lastHour 13 = .ok (.aload_n 0, 1) := dk_42 (dk_at dksX0_lastHour_0 13 rfl rfl)
theorem dX0_lastHour_14 : decode cX0_lastHour 14 = .ok (.getfield 83, 3) := dk_180 0 83 (dk_at dksX0_lastHour_0 14 rfl rfl)
theorem dX0_lastHour_17 : decode cX0_lastHour 17 = .ok (.iload_n 2, 1) := dk_28 (dk_at dksX0_lastHour_0 17 rfl rfl)
theorem dX0_lastHour_18 : decode cX0_lastHour 18 = .ok (.iaload, 1) := dk_46 (dk_at dksX0_lastHour_0 18 rfl rfl)
theorem dX0_lastHour_19 : decode cX0_lastHour 19 = .ok (.invokestatic 319, 3) := dk_184 1 63 (dk_at dksX0_lastHour_0 19 rfl rfl)
theorem dX0_lastHour_22 : decode cX0_lastHour 22 = .ok (.istore_n 1, 1) := dk_60 (dk_at dksX0_lastHour_0 22 rfl rfl)
theorem dX0_lastHour_23 : decode cX0_lastHour 23 = .ok (.iinc 2 1, 3) := dk_132 2 1 (dk_at dksX0_lastHour_1 0 rfl rfl)
theorem dX0_lastHour_26 : decode cX0_lastHour 26 = .ok (.goto (-22), 3) := dk_167 255 234 (dk_at dksX0_lastHour_1 3 rfl rfl)
theorem dX0_lastHour_29 : decode cX0_lastHour 29 = .ok (.iload_n 1, 1) := dk_27 (dk_at dksX0_lastHour_1 6 rfl rfl)
theorem dX0_lastHour_30 : decode cX0_lastHour 30 = .ok (.ireturn, 1) := dk_172 (dk_at dksX0_lastHour_1 7 rfl rfl)
abbrev cX0_isAsTold : ByteArray := prog_1_method_52_code
def yX0_isAsTold : MethodName := ⟨RX0, "isAsTold", "(I)Z"⟩
def dkwX0_isAsTold_4 : List UInt8 := [167, 255, 182, 4, 172]
abbrev dktX0_isAsTold_4 : List UInt8 := dkwX0_isAsTold_4 ++ []
def dkwX0_isAsTold_3 : List UInt8 := [184, 0, 239, 42, 180, 0, 89, 21, 4, 51, 159, 0, 5, 3, 172, 132, 4, 1, 167, 255, 204, 132, 3, 1]
abbrev dktX0_isAsTold_3 : List UInt8 := dkwX0_isAsTold_3 ++ dktX0_isAsTold_4
def dkwX0_isAsTold_2 : List UInt8 := [180, 0, 83, 21, 4, 46, 29, 160, 0, 32, 42, 180, 0, 75, 180, 1, 68, 42, 180, 0, 86, 21, 4, 46]
abbrev dktX0_isAsTold_2 : List UInt8 := dkwX0_isAsTold_2 ++ dktX0_isAsTold_3
def dkwX0_isAsTold_1 : List UInt8 := [163, 0, 75, 42, 180, 0, 75, 182, 1, 33, 87, 3, 54, 4, 21, 4, 42, 180, 0, 140, 162, 0, 49, 42]
abbrev dktX0_isAsTold_1 : List UInt8 := dkwX0_isAsTold_1 ++ dktX0_isAsTold_2
def dkwX0_isAsTold_0 : List UInt8 := [42, 180, 0, 75, 42, 180, 0, 71, 182, 1, 6, 27, 181, 0, 204, 42, 182, 1, 65, 61, 3, 62, 29, 28]
abbrev dktX0_isAsTold_0 : List UInt8 := dkwX0_isAsTold_0 ++ dktX0_isAsTold_1
theorem dksX0_isAsTold_0 : cX0_isAsTold.data.toList.drop 0 = dktX0_isAsTold_0 := by decide +kernel
theorem dksX0_isAsTold_1 : cX0_isAsTold.data.toList.drop 24 = dktX0_isAsTold_1 := dk_seg dksX0_isAsTold_0 24 rfl rfl
theorem dksX0_isAsTold_2 : cX0_isAsTold.data.toList.drop 48 = dktX0_isAsTold_2 := dk_seg dksX0_isAsTold_1 24 rfl rfl
theorem dksX0_isAsTold_3 : cX0_isAsTold.data.toList.drop 72 = dktX0_isAsTold_3 := dk_seg dksX0_isAsTold_2 24 rfl rfl
theorem dksX0_isAsTold_4 : cX0_isAsTold.data.toList.drop 96 = dktX0_isAsTold_4 := dk_seg dksX0_isAsTold_3 24 rfl rfl
theorem dX0_isAsTold_0 : decode cX0_isAsTold 0 = .ok (.aload_n 0, 1) := dk_42 (dk_at dksX0_isAsTold_0 0 rfl rfl)
theorem dX0_isAsTold_1 : decode cX0_isAsTold 1 = .ok (.getfield 75, 3) := dk_180 0 75 (dk_at dksX0_isAsTold_0 1 rfl rfl)
theorem dX0_isAsTold_4 : decode cX0_isAsTold 4 = .ok (.aload_n 0, 1) := dk_42 (dk_at dksX0_isAsTold_0 4 rfl rfl)
theorem dX0_isAsTold_5 : decode cX0_isAsTold 5 = .ok (.getfield 71, 3) := dk_180 0 71 (dk_at dksX0_isAsTold_0 5 rfl rfl)
theorem dX0_isAsTold_8 : decode cX0_isAsTold 8 = .ok (.invokevirtual 262, 3) := dk_182 1 6 (dk_at dksX0_isAsTold_0 8 rfl rfl)
theorem dX0_isAsTold_11 : decode cX0_isAsTold 11 = .ok (.iload_n 1, 1) := dk_27 (dk_at dksX0_isAsTold_0 11 rfl rfl)
theorem dX0_isAsTold_12 : decode cX0_isAsTold 12 = .ok (.putfield 204, 3) := dk_181 0 204 (dk_at dksX0_isAsTold_0 12 rfl rfl)
theorem dX0_isAsTold_15 : decode cX0_isAsTold 15 = .ok (.aload_n 0, 1) := dk_42 (dk_at dksX0_isAsTold_0 15 rfl rfl)
theorem dX0_isAsTold_16 : decode cX0_isAsTold 16 = .ok (.invokevirtual 321, 3) := dk_182 1 65 (dk_at dksX0_isAsTold_0 16 rfl rfl)
theorem dX0_isAsTold_19 : decode cX0_isAsTold 19 = .ok (.istore_n 2, 1) := dk_61 (dk_at dksX0_isAsTold_0 19 rfl rfl)
theorem dX0_isAsTold_20 : decode cX0_isAsTold 20 = .ok (.iconst 0, 1) := dk_3 (dk_at dksX0_isAsTold_0 20 rfl rfl)
theorem dX0_isAsTold_21 : decode cX0_isAsTold 21 = .ok (.istore_n 3, 1) := dk_62 (dk_at dksX0_isAsTold_0 21 rfl rfl)
theorem dX0_isAsTold_22 : decode cX0_isAsTold 22 = .ok (.iload_n 3, 1) := dk_29 (dk_at dksX0_isAsTold_0 22 rfl rfl)
theorem dX0_isAsTold_23 : decode cX0_isAsTold 23 = .ok (.iload_n 2, 1) := dk_28 (dk_at dksX0_isAsTold_0 23 rfl rfl)
theorem dX0_isAsTold_24 : decode cX0_isAsTold 24 = .ok (.if_icmp .gt 75, 3) := dk_163 0 75 (dk_at dksX0_isAsTold_1 0 rfl rfl)
theorem dX0_isAsTold_27 : decode cX0_isAsTold 27 = .ok (.aload_n 0, 1) := dk_42 (dk_at dksX0_isAsTold_1 3 rfl rfl)
theorem dX0_isAsTold_28 : decode cX0_isAsTold 28 = .ok (.getfield 75, 3) := dk_180 0 75 (dk_at dksX0_isAsTold_1 4 rfl rfl)
theorem dX0_isAsTold_31 : decode cX0_isAsTold 31 = .ok (.invokevirtual 289, 3) := dk_182 1 33 (dk_at dksX0_isAsTold_1 7 rfl rfl)
theorem dX0_isAsTold_34 : decode cX0_isAsTold 34 = .ok (.pop, 1) := dk_87 (dk_at dksX0_isAsTold_1 10 rfl rfl)
theorem dX0_isAsTold_35 : decode cX0_isAsTold 35 = .ok (.iconst 0, 1) := dk_3 (dk_at dksX0_isAsTold_1 11 rfl rfl)
theorem dX0_isAsTold_36 : decode cX0_isAsTold 36 = .ok (.istore 4, 2) := dk_54 4 (dk_at dksX0_isAsTold_1 12 rfl rfl)
theorem dX0_isAsTold_38 : decode cX0_isAsTold 38 = .ok (.iload 4, 2) := dk_21 4 (dk_at dksX0_isAsTold_1 14 rfl rfl)
theorem dX0_isAsTold_40 : decode cX0_isAsTold 40 = .ok (.aload_n 0, 1) := dk_42 (dk_at dksX0_isAsTold_1 16 rfl rfl)
theorem dX0_isAsTold_41 : decode cX0_isAsTold 41 = .ok (.getfield 140, 3) := dk_180 0 140 (dk_at dksX0_isAsTold_1 17 rfl rfl)
theorem dX0_isAsTold_44 : decode cX0_isAsTold 44 = .ok (.if_icmp .ge 49, 3) := dk_162 0 49 (dk_at dksX0_isAsTold_1 20 rfl rfl)
theorem dX0_isAsTold_47 : decode cX0_isAsTold 47 = .ok (.aload_n 0, 1) := dk_42 (dk_at dksX0_isAsTold_1 23 rfl rfl)
theorem dX0_isAsTold_48 : decode cX0_isAsTold 48 = .ok (.getfield 83, 3) := dk_180 0 83 (dk_at dksX0_isAsTold_2 0 rfl rfl)
theorem dX0_isAsTold_51 : decode cX0_isAsTold 51 = .ok (.iload 4, 2) := dk_21 4 (dk_at dksX0_isAsTold_2 3 rfl rfl)
theorem dX0_isAsTold_53 : decode cX0_isAsTold 53 = .ok (.iaload, 1) := dk_46 (dk_at dksX0_isAsTold_2 5 rfl rfl)
theorem dX0_isAsTold_54 : decode cX0_isAsTold 54 = .ok (.iload_n 3, 1) := dk_29 (dk_at dksX0_isAsTold_2 6 rfl rfl)
theorem dX0_isAsTold_55 : decode cX0_isAsTold 55 = .ok (.if_icmp .ne 32, 3) := dk_160 0 32 (dk_at dksX0_isAsTold_2 7 rfl rfl)
theorem dX0_isAsTold_58 : decode cX0_isAsTold 58 = .ok (.aload_n 0, 1) := dk_42 (dk_at dksX0_isAsTold_2 10 rfl rfl)
theorem dX0_isAsTold_59 : decode cX0_isAsTold 59 = .ok (.getfield 75, 3) := dk_180 0 75 (dk_at dksX0_isAsTold_2 11 rfl rfl)
theorem dX0_isAsTold_62 : decode cX0_isAsTold 62 = .ok (.getfield 324, 3) := dk_180 1 68 (dk_at dksX0_isAsTold_2 14 rfl rfl)
theorem dX0_isAsTold_65 : decode cX0_isAsTold 65 = .ok (.aload_n 0, 1) := dk_42 (dk_at dksX0_isAsTold_2 17 rfl rfl)
theorem dX0_isAsTold_66 : decode cX0_isAsTold 66 = .ok (.getfield 86, 3) := dk_180 0 86 (dk_at dksX0_isAsTold_2 18 rfl rfl)
theorem dX0_isAsTold_69 : decode cX0_isAsTold 69 = .ok (.iload 4, 2) := dk_21 4 (dk_at dksX0_isAsTold_2 21 rfl rfl)
theorem dX0_isAsTold_71 : decode cX0_isAsTold 71 = .ok (.iaload, 1) := dk_46 (dk_at dksX0_isAsTold_2 23 rfl rfl)
theorem dX0_isAsTold_72 : decode cX0_isAsTold 72 = .ok (.invokestatic 239, 3) := dk_184 0 239 (dk_at dksX0_isAsTold_3 0 rfl rfl)
theorem dX0_isAsTold_75 : decode cX0_isAsTold 75 = .ok (.aload_n 0, 1) := dk_42 (dk_at dksX0_isAsTold_3 3 rfl rfl)
theorem dX0_isAsTold_76 : decode cX0_isAsTold 76 = .ok (.getfield 89, 3) := dk_180 0 89 (dk_at dksX0_isAsTold_3 4 rfl rfl)
theorem dX0_isAsTold_79 : decode cX0_isAsTold 79 = .ok (.iload 4, 2) := dk_21 4 (dk_at dksX0_isAsTold_3 7 rfl rfl)
theorem dX0_isAsTold_81 : decode cX0_isAsTold 81 = .ok (.baload, 1) := dk_51 (dk_at dksX0_isAsTold_3 9 rfl rfl)
theorem dX0_isAsTold_82 : decode cX0_isAsTold 82 = .ok (.if_icmp .eq 5, 3) := dk_159 0 5 (dk_at dksX0_isAsTold_3 10 rfl rfl)
theorem dX0_isAsTold_85 : decode cX0_isAsTold 85 = .ok (.iconst 0, 1) := dk_3 (dk_at dksX0_isAsTold_3 13 rfl rfl)
theorem dX0_isAsTold_86 : decode cX0_isAsTold 86 = .ok (.ireturn, 1) := dk_172 (dk_at dksX0_isAsTold_3 14 rfl rfl)
theorem dX0_isAsTold_87 : decode cX0_isAsTold 87 = .ok (.iinc 4 1, 3) := dk_132 4 1 (dk_at dksX0_isAsTold_3 15 rfl rfl)
theorem dX0_isAsTold_90 : decode cX0_isAsTold 90 = .ok (.goto (-52), 3) := dk_167 255 204 (dk_at dksX0_isAsTold_3 18 rfl rfl)
theorem dX0_isAsTold_93 : decode cX0_isAsTold 93 = .ok (.iinc 3 1, 3) := dk_132 3 1 (dk_at dksX0_isAsTold_3 21 rfl rfl)
theorem dX0_isAsTold_96 : decode cX0_isAsTold 96 = .ok (.goto (-74), 3) := dk_167 255 182 (dk_at dksX0_isAsTold_4 0 rfl rfl)
theorem dX0_isAsTold_99 : decode cX0_isAsTold 99 = .ok (.iconst 1, 1) := dk_4 (dk_at dksX0_isAsTold_4 3 rfl rfl)
theorem dX0_isAsTold_100 : decode cX0_isAsTold 100 = .ok (.ireturn, 1) := dk_172 (dk_at dksX0_isAsTold_4 4 rfl rfl)
abbrev cX0_undo : ByteArray := prog_1_method_55_code
def yX0_undo : MethodName := ⟨RX0, "undo", "()Z"⟩
def dkwX0_undo_2 : List UInt8 := [87, 4, 172]
abbrev dktX0_undo_2 : List UInt8 := dkwX0_undo_2 ++ []
def dkwX0_undo_1 : List UInt8 := [180, 0, 137, 4, 100, 181, 0, 137, 42, 180, 0, 71, 42, 180, 0, 93, 42, 180, 0, 137, 50, 182, 1, 6]
abbrev dktX0_undo_1 : List UInt8 := dkwX0_undo_1 ++ dktX0_undo_2
def dkwX0_undo_0 : List UInt8 := [42, 180, 0, 137, 154, 0, 17, 42, 7, 182, 0, 107, 155, 0, 7, 4, 167, 0, 4, 3, 172, 42, 89]
abbrev dktX0_undo_0 : List UInt8 := dkwX0_undo_0 ++ dktX0_undo_1
theorem dksX0_undo_0 : cX0_undo.data.toList.drop 0 = dktX0_undo_0 := by decide +kernel
theorem dksX0_undo_1 : cX0_undo.data.toList.drop 23 = dktX0_undo_1 := dk_seg dksX0_undo_0 23 rfl rfl
theorem dksX0_undo_2 : cX0_undo.data.toList.drop 47 = dktX0_undo_2 := dk_seg dksX0_undo_1 24 rfl rfl
theorem dX0_undo_0 : decode cX0_undo 0 = .ok (.aload_n 0, 1) := dk_42 (dk_at dksX0_undo_0 0 rfl rfl)
theorem dX0_undo_1 : decode cX0_undo 1 = .ok (.getfield 137, 3) := dk_180 0 137 (dk_at dksX0_undo_0 1 rfl rfl)
theorem dX0_undo_4 : decode cX0_undo 4 = .ok (.ifCond .ne 17, 3) := dk_154 0 17 (dk_at dksX0_undo_0 4 rfl rfl)
theorem dX0_undo_7 : decode cX0_undo 7 = .ok (.aload_n 0, 1) := dk_42 (dk_at dksX0_undo_0 7 rfl rfl)
theorem dX0_undo_8 : decode cX0_undo 8 = .ok (.iconst 4, 1) := dk_7 (dk_at dksX0_undo_0 8 rfl rfl)
theorem dX0_undo_9 : decode cX0_undo 9 = .ok (.invokevirtual 107, 3) := dk_182 0 107 (dk_at dksX0_undo_0 9 rfl rfl)
theorem dX0_undo_12 : decode cX0_undo 12 = .ok (.ifCond .lt 7, 3) := dk_155 0 7 (dk_at dksX0_undo_0 12 rfl rfl)
theorem dX0_undo_15 : decode cX0_undo 15 = .ok (.iconst 1, 1) := dk_4 (dk_at dksX0_undo_0 15 rfl rfl)
theorem dX0_undo_16 : decode cX0_undo 16 = .ok (.goto 4, 3) := dk_167 0 4 (dk_at dksX0_undo_0 16 rfl rfl)
theorem dX0_undo_19 : decode cX0_undo 19 = .ok (.iconst 0, 1) := dk_3 (dk_at dksX0_undo_0 19 rfl rfl)
theorem dX0_undo_20 : decode cX0_undo 20 = .ok (.ireturn, 1) := dk_172 (dk_at dksX0_undo_0 20 rfl rfl)
theorem dX0_undo_21 : decode cX0_undo 21 = .ok (.aload_n 0, 1) := dk_42 (dk_at dksX0_undo_0 21 rfl rfl)
theorem dX0_undo_22 : decode cX0_undo 22 = .ok (.dup, 1) := dk_89 (dk_at dksX0_undo_0 22 rfl rfl)
theorem dX0_undo_23 : decode cX0_undo 23 = .ok (.getfield 137, 3) := dk_180 0 137 (dk_at dksX0_undo_1 0 rfl rfl)
theorem dX0_undo_26 : decode cX0_undo 26 = .ok (.iconst 1, 1) := dk_4 (dk_at dksX0_undo_1 3 rfl rfl)
theorem dX0_undo_27 : decode cX0_undo 27 = .ok (.isub, 1) := dk_100 (dk_at dksX0_undo_1 4 rfl rfl)
theorem dX0_undo_28 : decode cX0_undo 28 = .ok (.putfield 137, 3) := dk_181 0 137 (dk_at dksX0_undo_1 5 rfl rfl)
theorem dX0_undo_31 : decode cX0_undo 31 = .ok (.aload_n 0, 1) := dk_42 (dk_at dksX0_undo_1 8 rfl rfl)
theorem dX0_undo_32 : decode cX0_undo 32 = .ok (.getfield 71, 3) := dk_180 0 71 (dk_at dksX0_undo_1 9 rfl rfl)
theorem dX0_undo_35 : decode cX0_undo 35 = .ok (.aload_n 0, 1) := dk_42 (dk_at dksX0_undo_1 12 rfl rfl)
theorem dX0_undo_36 : decode cX0_undo 36 = .ok (.getfield 93, 3) := dk_180 0 93 (dk_at dksX0_undo_1 13 rfl rfl)
theorem dX0_undo_39 : decode cX0_undo 39 = .ok (.aload_n 0, 1) := dk_42 (dk_at dksX0_undo_1 16 rfl rfl)
theorem dX0_undo_40 : decode cX0_undo 40 = .ok (.getfield 137, 3) := dk_180 0 137 (dk_at dksX0_undo_1 17 rfl rfl)
theorem dX0_undo_43 : decode cX0_undo 43 = .ok (.aaload, 1) := dk_50 (dk_at dksX0_undo_1 20 rfl rfl)
theorem dX0_undo_44 : decode cX0_undo 44 = .ok (.invokevirtual 262, 3) := dk_182 1 6 (dk_at dksX0_undo_1 21 rfl rfl)
theorem dX0_undo_47 : decode cX0_undo 47 = .ok (.pop, 1) := dk_87 (dk_at dksX0_undo_2 0 rfl rfl)
theorem dX0_undo_48 : decode cX0_undo 48 = .ok (.iconst 1, 1) := dk_4 (dk_at dksX0_undo_2 1 rfl rfl)
theorem dX0_undo_49 : decode cX0_undo 49 = .ok (.ireturn, 1) := dk_172 (dk_at dksX0_undo_2 2 rfl rfl)
abbrev cX0_press : ByteArray := prog_1_method_56_code
def yX0_press : MethodName := ⟨RX0, "press", "(II)Z"⟩
def dkwX0_press_3 : List UInt8 := [130, 181, 0, 204, 4, 172]
abbrev dktX0_press_3 : List UInt8 := dkwX0_press_3 ++ []
def dkwX0_press_2 : List UInt8 := [155, 0, 7, 4, 167, 0, 4, 3, 172, 42, 182, 1, 74, 42, 180, 0, 71, 89, 180, 0, 204, 4, 27, 120]
abbrev dktX0_press_2 : List UInt8 := dkwX0_press_2 ++ dktX0_press_3
def dkwX0_press_1 : List UInt8 := [27, 184, 0, 239, 28, 4, 160, 0, 7, 4, 167, 0, 4, 3, 160, 0, 17, 42, 5, 182, 0, 107]
abbrev dktX0_press_1 : List UInt8 := dkwX0_press_1 ++ dktX0_press_2
def dkwX0_press_0 : List UInt8 := [42, 27, 182, 0, 236, 153, 0, 36, 28, 3, 4, 184, 0, 185, 153, 0, 27, 42, 180, 0, 71, 180, 0, 204]
abbrev dktX0_press_0 : List UInt8 := dkwX0_press_0 ++ dktX0_press_1
theorem dksX0_press_0 : cX0_press.data.toList.drop 0 = dktX0_press_0 := by decide +kernel
theorem dksX0_press_1 : cX0_press.data.toList.drop 24 = dktX0_press_1 := dk_seg dksX0_press_0 24 rfl rfl
theorem dksX0_press_2 : cX0_press.data.toList.drop 46 = dktX0_press_2 := dk_seg dksX0_press_1 22 rfl rfl
theorem dksX0_press_3 : cX0_press.data.toList.drop 70 = dktX0_press_3 := dk_seg dksX0_press_2 24 rfl rfl
theorem dX0_press_0 : decode cX0_press 0 = .ok (.aload_n 0, 1) := dk_42 (dk_at dksX0_press_0 0 rfl rfl)
theorem dX0_press_1 : decode cX0_press 1 = .ok (.iload_n 1, 1) := dk_27 (dk_at dksX0_press_0 1 rfl rfl)
theorem dX0_press_2 : decode cX0_press 2 = .ok (.invokevirtual 236, 3) := dk_182 0 236 (dk_at dksX0_press_0 2 rfl rfl)
theorem dX0_press_5 : decode cX0_press 5 = .ok (.ifCond .eq 36, 3) := dk_153 0 36 (dk_at dksX0_press_0 5 rfl rfl)
theorem dX0_press_8 : decode cX0_press 8 = .ok (.iload_n 2, 1) := dk_28 (dk_at dksX0_press_0 8 rfl rfl)
theorem dX0_press_9 : decode cX0_press 9 = .ok (.iconst 0, 1) := dk_3 (dk_at dksX0_press_0 9 rfl rfl)
theorem dX0_press_10 : decode cX0_press 10 = .ok (.iconst 1, 1) := dk_4 (dk_at dksX0_press_0 10 rfl rfl)
theorem dX0_press_11 : decode cX0_press 11 = .ok (.invokestatic 185, 3) := dk_184 0 185 (dk_at dksX0_press_0 11 rfl rfl)
theorem dX0_press_14 : decode cX0_press 14 = .ok (.ifCond .eq 27, 3) := dk_153 0 27 (dk_at dksX0_press_0 14 rfl rfl)
theorem dX0_press_17 : decode cX0_press 17 = .ok (.aload_n 0, 1) := dk_42 (dk_at dksX0_press_0 17 rfl rfl)
theorem dX0_press_18 : decode cX0_press 18 = .ok (.getfield 71, 3) := dk_180 0 71 (dk_at dksX0_press_0 18 rfl rfl)
theorem dX0_press_21 : decode cX0_press 21 = .ok (.getfield 204, 3) := dk_180 0 204 (dk_at dksX0_press_0 21 rfl rfl)
theorem dX0_press_24 : decode cX0_press 24 = .ok (.iload_n 1, 1) := dk_27 (dk_at dksX0_press_1 0 rfl rfl)
theorem dX0_press_25 : decode cX0_press 25 = .ok (.invokestatic 239, 3) := dk_184 0 239 (dk_at dksX0_press_1 1 rfl rfl)
theorem dX0_press_28 : decode cX0_press 28 = .ok (.iload_n 2, 1) := dk_28 (dk_at dksX0_press_1 4 rfl rfl)
theorem dX0_press_29 : decode cX0_press 29 = .ok (.iconst 1, 1) := dk_4 (dk_at dksX0_press_1 5 rfl rfl)
theorem dX0_press_30 : decode cX0_press 30 = .ok (.if_icmp .ne 7, 3) := dk_160 0 7 (dk_at dksX0_press_1 6 rfl rfl)
theorem dX0_press_33 : decode cX0_press 33 = .ok (.iconst 1, 1) := dk_4 (dk_at dksX0_press_1 9 rfl rfl)
theorem dX0_press_34 : decode cX0_press 34 = .ok (.goto 4, 3) := dk_167 0 4 (dk_at dksX0_press_1 10 rfl rfl)
theorem dX0_press_37 : decode cX0_press 37 = .ok (.iconst 0, 1) := dk_3 (dk_at dksX0_press_1 13 rfl rfl)
theorem dX0_press_38 : decode cX0_press 38 = .ok (.if_icmp .ne 17, 3) := dk_160 0 17 (dk_at dksX0_press_1 14 rfl rfl)
theorem dX0_press_41 : decode cX0_press 41 = .ok (.aload_n 0, 1) := dk_42 (dk_at dksX0_press_1 17 rfl rfl)
theorem dX0_press_42 : decode cX0_press 42 = .ok (.iconst 2, 1) := dk_5 (dk_at dksX0_press_1 18 rfl rfl)
theorem dX0_press_43 : decode cX0_press 43 = .ok (.invokevirtual 107, 3) := dk_182 0 107 (dk_at dksX0_press_1 19 rfl rfl)
theorem dX0_press_46 : decode cX0_press 46 = .ok (.ifCond .lt 7, 3) := dk_155 0 7 (dk_at dksX0_press_2 0 rfl rfl)
theorem dX0_press_49 : decode cX0_press 49 = .ok (.iconst 1, 1) := dk_4 (dk_at dksX0_press_2 3 rfl rfl)
theorem dX0_press_50 : decode cX0_press 50 = .ok (.goto 4, 3) := dk_167 0 4 (dk_at dksX0_press_2 4 rfl rfl)
theorem dX0_press_53 : decode cX0_press 53 = .ok (.iconst 0, 1) := dk_3 (dk_at dksX0_press_2 7 rfl rfl)
theorem dX0_press_54 : decode cX0_press 54 = .ok (.ireturn, 1) := dk_172 (dk_at dksX0_press_2 8 rfl rfl)
theorem dX0_press_55 : decode cX0_press 55 = .ok (.aload_n 0, 1) := dk_42 (dk_at dksX0_press_2 9 rfl rfl)
theorem dX0_press_56 : decode cX0_press 56 = .ok (.invokevirtual 330, 3) := dk_182 1 74 (dk_at dksX0_press_2 10 rfl rfl)
theorem dX0_press_59 : decode cX0_press 59 = .ok (.aload_n 0, 1) := dk_42 (dk_at dksX0_press_2 13 rfl rfl)
theorem dX0_press_60 : decode cX0_press 60 = .ok (.getfield 71, 3) := dk_180 0 71 (dk_at dksX0_press_2 14 rfl rfl)
theorem dX0_press_63 : decode cX0_press 63 = .ok (.dup, 1) := dk_89 (dk_at dksX0_press_2 17 rfl rfl)
theorem dX0_press_64 : decode cX0_press 64 = .ok (.getfield 204, 3) := dk_180 0 204 (dk_at dksX0_press_2 18 rfl rfl)
theorem dX0_press_67 : decode cX0_press 67 = .ok (.iconst 1, 1) := dk_4 (dk_at dksX0_press_2 21 rfl rfl)
theorem dX0_press_68 : decode cX0_press 68 = .ok (.iload_n 1, 1) := dk_27 (dk_at dksX0_press_2 22 rfl rfl)
theorem dX0_press_69 : decode cX0_press 69 = .ok (.ishl, 1) := dk_120 (dk_at dksX0_press_2 23 rfl rfl)
theorem dX0_press_70 : decode cX0_press 70 = .ok (.ixor, 1) := dk_130 (dk_at dksX0_press_3 0 rfl rfl)
theorem dX0_press_71 : decode cX0_press 71 = .ok (.putfield 204, 3) := dk_181 0 204 (dk_at dksX0_press_3 1 rfl rfl)
theorem dX0_press_74 : decode cX0_press 74 = .ok (.iconst 1, 1) := dk_4 (dk_at dksX0_press_3 4 rfl rfl)
theorem dX0_press_75 : decode cX0_press 75 = .ok (.ireturn, 1) := dk_172 (dk_at dksX0_press_3 5 rfl rfl)
abbrev cX0_keeps : ByteArray := prog_1_method_54_code
def yX0_keeps : MethodName := ⟨RX0, "keeps", "()V"⟩
def dkwX0_keeps_3 : List UInt8 := [180, 0, 71, 182, 1, 6, 87, 42, 89, 180, 0, 137, 4, 96, 181, 0, 137, 177]
abbrev dktX0_keeps_3 : List UInt8 := dkwX0_keeps_3 ++ []
def dkwX0_keeps_2 : List UInt8 := [16, 19, 43, 83, 42, 89, 180, 0, 137, 4, 100, 181, 0, 137, 42, 180, 0, 93, 42, 180, 0, 137, 50, 42]
abbrev dktX0_keeps_2 : List UInt8 := dkwX0_keeps_2 ++ dktX0_keeps_3
def dkwX0_keeps_1 : List UInt8 := [42, 180, 0, 93, 28, 4, 100, 42, 180, 0, 93, 28, 50, 83, 132, 2, 1, 167, 255, 233, 42, 180, 0, 93]
abbrev dktX0_keeps_1 : List UInt8 := dkwX0_keeps_1 ++ dktX0_keeps_2
def dkwX0_keeps_0 : List UInt8 := [42, 180, 0, 137, 16, 20, 160, 0, 56, 42, 180, 0, 93, 3, 50, 76, 4, 61, 28, 16, 20, 162, 0, 23]
abbrev dktX0_keeps_0 : List UInt8 := dkwX0_keeps_0 ++ dktX0_keeps_1
theorem dksX0_keeps_0 : cX0_keeps.data.toList.drop 0 = dktX0_keeps_0 := by decide +kernel
theorem dksX0_keeps_1 : cX0_keeps.data.toList.drop 24 = dktX0_keeps_1 := dk_seg dksX0_keeps_0 24 rfl rfl
theorem dksX0_keeps_2 : cX0_keeps.data.toList.drop 48 = dktX0_keeps_2 := dk_seg dksX0_keeps_1 24 rfl rfl
theorem dksX0_keeps_3 : cX0_keeps.data.toList.drop 72 = dktX0_keeps_3 := dk_seg dksX0_keeps_2 24 rfl rfl
theorem dX0_keeps_0 : decode cX0_keeps 0 = .ok (.aload_n 0, 1) := dk_42 (dk_at dksX0_keeps_0 0 rfl rfl)
theorem dX0_keeps_1 : decode cX0_keeps 1 = .ok (.getfield 137, 3) := dk_180 0 137 (dk_at dksX0_keeps_0 1 rfl rfl)
theorem dX0_keeps_4 : decode cX0_keeps 4 = .ok (.bipush 20, 2) := dk_16 20 (dk_at dksX0_keeps_0 4 rfl rfl)
theorem dX0_keeps_6 : decode cX0_keeps 6 = .ok (.if_icmp .ne 56, 3) := dk_160 0 56 (dk_at dksX0_keeps_0 6 rfl rfl)
theorem dX0_keeps_9 : decode cX0_keeps 9 = .ok (.aload_n 0, 1) := dk_42 (dk_at dksX0_keeps_0 9 rfl rfl)
theorem dX0_keeps_10 : decode cX0_keeps 10 = .ok (.getfield 93, 3) := dk_180 0 93 (dk_at dksX0_keeps_0 10 rfl rfl)
theorem dX0_keeps_13 : decode cX0_keeps 13 = .ok (.iconst 0, 1) := dk_3 (dk_at dksX0_keeps_0 13 rfl rfl)
theorem dX0_keeps_14 : decode cX0_keeps 14 = .ok (.aaload, 1) := dk_50 (dk_at dksX0_keeps_0 14 rfl rfl)
theorem dX0_keeps_15 : decode cX0_keeps 15 = .ok (.astore_n 1, 1) := dk_76 (dk_at dksX0_keeps_0 15 rfl rfl)
theorem dX0_keeps_16 : decode cX0_keeps 16 = .ok (.iconst 1, 1) := dk_4 (dk_at dksX0_keeps_0 16 rfl rfl)
theorem dX0_keeps_17 : decode cX0_keeps 17 = .ok (.istore_n 2, 1) := dk_61 (dk_at dksX0_keeps_0 17 rfl rfl)
theorem dX0_keeps_18 : decode cX0_keeps 18 = .ok (.iload_n 2, 1) := dk_28 (dk_at dksX0_keeps_0 18 rfl rfl)
theorem dX0_keeps_19 : decode cX0_keeps 19 = .ok (.bipush 20, 2) := dk_16 20 (dk_at dksX0_keeps_0 19 rfl rfl)
theorem dX0_keeps_21 : decode cX0_keeps 21 = .ok (.if_icmp .ge 23, 3) := dk_162 0 23 (dk_at dksX0_keeps_0 21 rfl rfl)
theorem dX0_keeps_24 : decode cX0_keeps 24 = .ok (.aload_n 0, 1) := dk_42 (dk_at dksX0_keeps_1 0 rfl rfl)
theorem dX0_keeps_25 : decode cX0_keeps 25 = .ok (.getfield 93, 3) := dk_180 0 93 (dk_at dksX0_keeps_1 1 rfl rfl)
theorem dX0_keeps_28 : decode cX0_keeps 28 = .ok (.iload_n 2, 1) := dk_28 (dk_at dksX0_keeps_1 4 rfl rfl)
theorem dX0_keeps_29 : decode cX0_keeps 29 = .ok (.iconst 1, 1) := dk_4 (dk_at dksX0_keeps_1 5 rfl rfl)
theorem dX0_keeps_30 : decode cX0_keeps 30 = .ok (.isub, 1) := dk_100 (dk_at dksX0_keeps_1 6 rfl rfl)
theorem dX0_keeps_31 : decode cX0_keeps 31 = .ok (.aload_n 0, 1) := dk_42 (dk_at dksX0_keeps_1 7 rfl rfl)
theorem dX0_keeps_32 : decode cX0_keeps 32 = .ok (.getfield 93, 3) := dk_180 0 93 (dk_at dksX0_keeps_1 8 rfl rfl)
theorem dX0_keeps_35 : decode cX0_keeps 35 = .ok (.iload_n 2, 1) := dk_28 (dk_at dksX0_keeps_1 11 rfl rfl)
theorem dX0_keeps_36 : decode cX0_keeps 36 = .ok (.aaload, 1) := dk_50 (dk_at dksX0_keeps_1 12 rfl rfl)
theorem dX0_keeps_37 : decode cX0_keeps 37 = .ok (.aastore, 1) := dk_83 (dk_at dksX0_keeps_1 13 rfl rfl)
theorem dX0_keeps_38 : decode cX0_keeps 38 = .ok (.iinc 2 1, 3) := dk_132 2 1 (dk_at dksX0_keeps_1 14 rfl rfl)
theorem dX0_keeps_41 : decode cX0_keeps 41 = .ok (.goto (-23), 3) := dk_167 255 233 (dk_at dksX0_keeps_1 17 rfl rfl)
theorem dX0_keeps_44 : decode cX0_keeps 44 = .ok (.aload_n 0, 1) := dk_42 (dk_at dksX0_keeps_1 20 rfl rfl)
theorem dX0_keeps_45 : decode cX0_keeps 45 = .ok (.getfield 93, 3) := dk_180 0 93 (dk_at dksX0_keeps_1 21 rfl rfl)
theorem dX0_keeps_48 : decode cX0_keeps 48 = .ok (.bipush 19, 2) := dk_16 19 (dk_at dksX0_keeps_2 0 rfl rfl)
theorem dX0_keeps_50 : decode cX0_keeps 50 = .ok (.aload_n 1, 1) := dk_43 (dk_at dksX0_keeps_2 2 rfl rfl)
theorem dX0_keeps_51 : decode cX0_keeps 51 = .ok (.aastore, 1) := dk_83 (dk_at dksX0_keeps_2 3 rfl rfl)
theorem dX0_keeps_52 : decode cX0_keeps 52 = .ok (.aload_n 0, 1) := dk_42 (dk_at dksX0_keeps_2 4 rfl rfl)
theorem dX0_keeps_53 : decode cX0_keeps 53 = .ok (.dup, 1) := dk_89 (dk_at dksX0_keeps_2 5 rfl rfl)
theorem dX0_keeps_54 : decode cX0_keeps 54 = .ok (.getfield 137, 3) := dk_180 0 137 (dk_at dksX0_keeps_2 6 rfl rfl)
theorem dX0_keeps_57 : decode cX0_keeps 57 = .ok (.iconst 1, 1) := dk_4 (dk_at dksX0_keeps_2 9 rfl rfl)
theorem dX0_keeps_58 : decode cX0_keeps 58 = .ok (.isub, 1) := dk_100 (dk_at dksX0_keeps_2 10 rfl rfl)
theorem dX0_keeps_59 : decode cX0_keeps 59 = .ok (.putfield 137, 3) := dk_181 0 137 (dk_at dksX0_keeps_2 11 rfl rfl)
theorem dX0_keeps_62 : decode cX0_keeps 62 = .ok (.aload_n 0, 1) := dk_42 (dk_at dksX0_keeps_2 14 rfl rfl)
theorem dX0_keeps_63 : decode cX0_keeps 63 = .ok (.getfield 93, 3) := dk_180 0 93 (dk_at dksX0_keeps_2 15 rfl rfl)
theorem dX0_keeps_66 : decode cX0_keeps 66 = .ok (.aload_n 0, 1) := dk_42 (dk_at dksX0_keeps_2 18 rfl rfl)
theorem dX0_keeps_67 : decode cX0_keeps 67 = .ok (.getfield 137, 3) := dk_180 0 137 (dk_at dksX0_keeps_2 19 rfl rfl)
theorem dX0_keeps_70 : decode cX0_keeps 70 = .ok (.aaload, 1) := dk_50 (dk_at dksX0_keeps_2 22 rfl rfl)
theorem dX0_keeps_71 : decode cX0_keeps 71 = .ok (.aload_n 0, 1) := dk_42 (dk_at dksX0_keeps_2 23 rfl rfl)
theorem dX0_keeps_72 : decode cX0_keeps 72 = .ok (.getfield 71, 3) := dk_180 0 71 (dk_at dksX0_keeps_3 0 rfl rfl)
theorem dX0_keeps_75 : decode cX0_keeps 75 = .ok (.invokevirtual 262, 3) := dk_182 1 6 (dk_at dksX0_keeps_3 3 rfl rfl)
theorem dX0_keeps_78 : decode cX0_keeps 78 = .ok (.pop, 1) := dk_87 (dk_at dksX0_keeps_3 6 rfl rfl)
theorem dX0_keeps_79 : decode cX0_keeps 79 = .ok (.aload_n 0, 1) := dk_42 (dk_at dksX0_keeps_3 7 rfl rfl)
theorem dX0_keeps_80 : decode cX0_keeps 80 = .ok (.dup, 1) := dk_89 (dk_at dksX0_keeps_3 8 rfl rfl)
theorem dX0_keeps_81 : decode cX0_keeps 81 = .ok (.getfield 137, 3) := dk_180 0 137 (dk_at dksX0_keeps_3 9 rfl rfl)
theorem dX0_keeps_84 : decode cX0_keeps 84 = .ok (.iconst 1, 1) := dk_4 (dk_at dksX0_keeps_3 12 rfl rfl)
theorem dX0_keeps_85 : decode cX0_keeps 85 = .ok (.iadd, 1) := dk_96 (dk_at dksX0_keeps_3 13 rfl rfl)
theorem dX0_keeps_86 : decode cX0_keeps 86 = .ok (.putfield 137, 3) := dk_181 0 137 (dk_at dksX0_keeps_3 14 rfl rfl)
theorem dX0_keeps_89 : decode cX0_keeps 89 = .ok (.return_, 1) := dk_177 (dk_at dksX0_keeps_3 17 rfl rfl)
abbrev cX0_show : ByteArray := prog_1_method_57_code
def yX0_show : MethodName := ⟨RX0, "show", "(II)J"⟩
def dkwX0_show_2 : List UInt8 := [182, 1, 74, 42, 180, 0, 71, 27, 28, 182, 1, 41, 133, 173]
abbrev dktX0_show_2 : List UInt8 := dkwX0_show_2 ++ []
def dkwX0_show_1 : List UInt8 := [27, 182, 1, 30, 28, 182, 1, 38, 153, 0, 13, 42, 5, 182, 0, 107, 87, 20, 1, 18, 173, 42]
abbrev dktX0_show_1 : List UInt8 := dkwX0_show_1 ++ dktX0_show_2
def dkwX0_show_0 : List UInt8 := [42, 27, 182, 0, 236, 153, 0, 30, 42, 28, 182, 0, 226, 153, 0, 22, 42, 180, 0, 71, 42, 180, 0, 71]
abbrev dktX0_show_0 : List UInt8 := dkwX0_show_0 ++ dktX0_show_1
theorem dksX0_show_0 : cX0_show.data.toList.drop 0 = dktX0_show_0 := by decide +kernel
theorem dksX0_show_1 : cX0_show.data.toList.drop 24 = dktX0_show_1 := dk_seg dksX0_show_0 24 rfl rfl
theorem dksX0_show_2 : cX0_show.data.toList.drop 46 = dktX0_show_2 := dk_seg dksX0_show_1 22 rfl rfl
theorem dX0_show_0 : decode cX0_show 0 = .ok (.aload_n 0, 1) := dk_42 (dk_at dksX0_show_0 0 rfl rfl)
theorem dX0_show_1 : decode cX0_show 1 = .ok (.iload_n 1, 1) := dk_27 (dk_at dksX0_show_0 1 rfl rfl)
theorem dX0_show_2 : decode cX0_show 2 = .ok (.invokevirtual 236, 3) := dk_182 0 236 (dk_at dksX0_show_0 2 rfl rfl)
theorem dX0_show_5 : decode cX0_show 5 = .ok (.ifCond .eq 30, 3) := dk_153 0 30 (dk_at dksX0_show_0 5 rfl rfl)
theorem dX0_show_8 : decode cX0_show 8 = .ok (.aload_n 0, 1) := dk_42 (dk_at dksX0_show_0 8 rfl rfl)
theorem dX0_show_9 : decode cX0_show 9 = .ok (.iload_n 2, 1) := dk_28 (dk_at dksX0_show_0 9 rfl rfl)
theorem dX0_show_10 : decode cX0_show 10 = .ok (.invokevirtual 226, 3) := dk_182 0 226 (dk_at dksX0_show_0 10 rfl rfl)
theorem dX0_show_13 : decode cX0_show 13 = .ok (.ifCond .eq 22, 3) := dk_153 0 22 (dk_at dksX0_show_0 13 rfl rfl)
theorem dX0_show_16 : decode cX0_show 16 = .ok (.aload_n 0, 1) := dk_42 (dk_at dksX0_show_0 16 rfl rfl)
theorem dX0_show_17 : decode cX0_show 17 = .ok (.getfield 71, 3) := dk_180 0 71 (dk_at dksX0_show_0 17 rfl rfl)
theorem dX0_show_20 : decode cX0_show 20 = .ok (.aload_n 0, 1) := dk_42 (dk_at dksX0_show_0 20 rfl rfl)
theorem dX0_show_21 : decode cX0_show 21 = .ok (.getfield 71, 3) := dk_180 0 71 (dk_at dksX0_show_0 21 rfl rfl)
theorem dX0_show_24 : decode cX0_show 24 = .ok (.iload_n 1, 1) := dk_27 (dk_at dksX0_show_1 0 rfl rfl)
theorem dX0_show_25 : decode cX0_show 25 = .ok (.invokevirtual 286, 3) := dk_182 1 30 (dk_at dksX0_show_1 1 rfl rfl)
theorem dX0_show_28 : decode cX0_show 28 = .ok (.iload_n 2, 1) := dk_28 (dk_at dksX0_show_1 4 rfl rfl)
theorem dX0_show_29 : decode cX0_show 29 = .ok (.invokevirtual 294, 3) := dk_182 1 38 (dk_at dksX0_show_1 5 rfl rfl)
theorem dX0_show_32 : decode cX0_show 32 = .ok (.ifCond .eq 13, 3) := dk_153 0 13 (dk_at dksX0_show_1 8 rfl rfl)
theorem dX0_show_35 : decode cX0_show 35 = .ok (.aload_n 0, 1) := dk_42 (dk_at dksX0_show_1 11 rfl rfl)
theorem dX0_show_36 : decode cX0_show 36 = .ok (.iconst 2, 1) := dk_5 (dk_at dksX0_show_1 12 rfl rfl)
theorem dX0_show_37 : decode cX0_show 37 = .ok (.invokevirtual 107, 3) := dk_182 0 107 (dk_at dksX0_show_1 13 rfl rfl)
theorem dX0_show_40 : decode cX0_show 40 = .ok (.pop, 1) := dk_87 (dk_at dksX0_show_1 16 rfl rfl)
theorem dX0_show_41 : decode cX0_show 41 = .ok (.ldc2_w 274, 3) := dk_20 1 18 (dk_at dksX0_show_1 17 rfl rfl)
theorem dX0_show_44 : decode cX0_show 44 = .ok (.lreturn, 1) := dk_173 (dk_at dksX0_show_1 20 rfl rfl)
theorem dX0_show_45 : decode cX0_show 45 = .ok (.aload_n 0, 1) := dk_42 (dk_at dksX0_show_1 21 rfl rfl)
theorem dX0_show_46 : decode cX0_show 46 = .ok (.invokevirtual 330, 3) := dk_182 1 74 (dk_at dksX0_show_2 0 rfl rfl)
theorem dX0_show_49 : decode cX0_show 49 = .ok (.aload_n 0, 1) := dk_42 (dk_at dksX0_show_2 3 rfl rfl)
theorem dX0_show_50 : decode cX0_show 50 = .ok (.getfield 71, 3) := dk_180 0 71 (dk_at dksX0_show_2 4 rfl rfl)
theorem dX0_show_53 : decode cX0_show 53 = .ok (.iload_n 1, 1) := dk_27 (dk_at dksX0_show_2 7 rfl rfl)
theorem dX0_show_54 : decode cX0_show 54 = .ok (.iload_n 2, 1) := dk_28 (dk_at dksX0_show_2 8 rfl rfl)
theorem dX0_show_55 : decode cX0_show 55 = .ok (.invokevirtual 297, 3) := dk_182 1 41 (dk_at dksX0_show_2 9 rfl rfl)
theorem dX0_show_58 : decode cX0_show 58 = .ok (.i2l, 1) := dk_133 (dk_at dksX0_show_2 12 rfl rfl)
theorem dX0_show_59 : decode cX0_show 59 = .ok (.lreturn, 1) := dk_173 (dk_at dksX0_show_2 13 rfl rfl)
abbrev cX0_hours : ByteArray := prog_1_method_58_code
def yX0_hours : MethodName := ⟨RX0, "hours", "(I)I"⟩
def dkwX0_hours_1 : List UInt8 := [62, 29, 27, 162, 0, 19, 28, 42, 180, 0, 71, 182, 1, 33, 96, 61, 132, 3, 1, 167, 255, 238, 28, 172]
abbrev dktX0_hours_1 : List UInt8 := dkwX0_hours_1 ++ []
def dkwX0_hours_0 : List UInt8 := [42, 27, 4, 16, 100, 182, 1, 3, 154, 0, 9, 42, 6, 182, 0, 107, 172, 42, 182, 1, 74, 3, 61, 3]
abbrev dktX0_hours_0 : List UInt8 := dkwX0_hours_0 ++ dktX0_hours_1
theorem dksX0_hours_0 : cX0_hours.data.toList.drop 0 = dktX0_hours_0 := by decide +kernel
theorem dksX0_hours_1 : cX0_hours.data.toList.drop 24 = dktX0_hours_1 := dk_seg dksX0_hours_0 24 rfl rfl
theorem dX0_hours_0 : decode cX0_hours 0 = .ok (.aload_n 0, 1) := dk_42 (dk_at dksX0_hours_0 0 rfl rfl)
theorem dX0_hours_1 : decode cX0_hours 1 = .ok (.iload_n 1, 1) := dk_27 (dk_at dksX0_hours_0 1 rfl rfl)
theorem dX0_hours_2 : decode cX0_hours 2 = .ok (.iconst 1, 1) := dk_4 (dk_at dksX0_hours_0 2 rfl rfl)
theorem dX0_hours_3 : decode cX0_hours 3 = .ok (.bipush 100, 2) := dk_16 100 (dk_at dksX0_hours_0 3 rfl rfl)
theorem dX0_hours_5 : decode cX0_hours 5 = .ok (.invokevirtual 259, 3) := dk_182 1 3 (dk_at dksX0_hours_0 5 rfl rfl)
theorem dX0_hours_8 : decode cX0_hours 8 = .ok (.ifCond .ne 9, 3) := dk_154 0 9 (dk_at dksX0_hours_0 8 rfl rfl)
theorem dX0_hours_11 : decode cX0_hours 11 = .ok (.aload_n 0, 1) := dk_42 (dk_at dksX0_hours_0 11 rfl rfl)
theorem dX0_hours_12 : decode cX0_hours 12 = .ok (.iconst 3, 1) := dk_6 (dk_at dksX0_hours_0 12 rfl rfl)
theorem dX0_hours_13 : decode cX0_hours 13 = .ok (.invokevirtual 107, 3) := dk_182 0 107 (dk_at dksX0_hours_0 13 rfl rfl)
theorem dX0_hours_16 : decode cX0_hours 16 = .ok (.ireturn, 1) := dk_172 (dk_at dksX0_hours_0 16 rfl rfl)
theorem dX0_hours_17 : decode cX0_hours 17 = .ok (.aload_n 0, 1) := dk_42 (dk_at dksX0_hours_0 17 rfl rfl)
theorem dX0_hours_18 : decode cX0_hours 18 = .ok (.invokevirtual 330, 3) := dk_182 1 74 (dk_at dksX0_hours_0 18 rfl rfl)
theorem dX0_hours_21 : decode cX0_hours 21 = .ok (.iconst 0, 1) := dk_3 (dk_at dksX0_hours_0 21 rfl rfl)
theorem dX0_hours_22 : decode cX0_hours 22 = .ok (.istore_n 2, 1) := dk_61 (dk_at dksX0_hours_0 22 rfl rfl)
theorem dX0_hours_23 : decode cX0_hours 23 = .ok (.iconst 0, 1) := dk_3 (dk_at dksX0_hours_0 23 rfl rfl)
theorem dX0_hours_24 : decode cX0_hours 24 = .ok (.istore_n 3, 1) := dk_62 (dk_at dksX0_hours_1 0 rfl rfl)
theorem dX0_hours_25 : decode cX0_hours 25 = .ok (.iload_n 3, 1) := dk_29 (dk_at dksX0_hours_1 1 rfl rfl)
theorem dX0_hours_26 : decode cX0_hours 26 = .ok (.iload_n 1, 1) := dk_27 (dk_at dksX0_hours_1 2 rfl rfl)
theorem dX0_hours_27 : decode cX0_hours 27 = .ok (.if_icmp .ge 19, 3) := dk_162 0 19 (dk_at dksX0_hours_1 3 rfl rfl)
theorem dX0_hours_30 : decode cX0_hours 30 = .ok (.iload_n 2, 1) := dk_28 (dk_at dksX0_hours_1 6 rfl rfl)
theorem dX0_hours_31 : decode cX0_hours 31 = .ok (.aload_n 0, 1) := dk_42 (dk_at dksX0_hours_1 7 rfl rfl)
theorem dX0_hours_32 : decode cX0_hours 32 = .ok (.getfield 71, 3) := dk_180 0 71 (dk_at dksX0_hours_1 8 rfl rfl)
theorem dX0_hours_35 : decode cX0_hours 35 = .ok (.invokevirtual 289, 3) := dk_182 1 33 (dk_at dksX0_hours_1 11 rfl rfl)
theorem dX0_hours_38 : decode cX0_hours 38 = .ok (.iadd, 1) := dk_96 (dk_at dksX0_hours_1 14 rfl rfl)
theorem dX0_hours_39 : decode cX0_hours 39 = .ok (.istore_n 2, 1) := dk_61 (dk_at dksX0_hours_1 15 rfl rfl)
theorem dX0_hours_40 : decode cX0_hours 40 = .ok (.iinc 3 1, 3) := dk_132 3 1 (dk_at dksX0_hours_1 16 rfl rfl)
theorem dX0_hours_43 : decode cX0_hours 43 = .ok (.goto (-18), 3) := dk_167 255 238 (dk_at dksX0_hours_1 19 rfl rfl)
theorem dX0_hours_46 : decode cX0_hours 46 = .ok (.iload_n 2, 1) := dk_28 (dk_at dksX0_hours_1 22 rfl rfl)
theorem dX0_hours_47 : decode cX0_hours 47 = .ok (.ireturn, 1) := dk_172 (dk_at dksX0_hours_1 23 rfl rfl)
abbrev cX0_chance : ByteArray := prog_1_method_60_code
def yX0_chance : MethodName := ⟨RX0, "chance", "(I)I"⟩
def dkwX0_chance_4 : List UInt8 := [28, 172]
abbrev dktX0_chance_4 : List UInt8 := dkwX0_chance_4 ++ []
def dkwX0_chance_3 : List UInt8 := [153, 0, 7, 4, 167, 0, 4, 3, 96, 61, 42, 180, 0, 71, 182, 1, 33, 87, 132, 3, 1, 167, 255, 191]
abbrev dktX0_chance_3 : List UInt8 := dkwX0_chance_3 ++ dktX0_chance_4
def dkwX0_chance_2 : List UInt8 := [182, 0, 163, 158, 0, 29, 28, 42, 180, 0, 71, 42, 42, 182, 0, 163, 182, 1, 84, 182, 1, 90]
abbrev dktX0_chance_2 : List UInt8 := dkwX0_chance_2 ++ dktX0_chance_3
def dkwX0_chance_1 : List UInt8 := [62, 29, 27, 162, 0, 66, 42, 16, 100, 182, 1, 84, 42, 180, 0, 33, 180, 1, 87, 162, 0, 36, 42]
abbrev dktX0_chance_1 : List UInt8 := dkwX0_chance_1 ++ dktX0_chance_2
def dkwX0_chance_0 : List UInt8 := [42, 27, 4, 16, 100, 182, 1, 3, 154, 0, 9, 42, 6, 182, 0, 107, 172, 42, 182, 1, 74, 3, 61, 3]
abbrev dktX0_chance_0 : List UInt8 := dkwX0_chance_0 ++ dktX0_chance_1
theorem dksX0_chance_0 : cX0_chance.data.toList.drop 0 = dktX0_chance_0 := by decide +kernel
theorem dksX0_chance_1 : cX0_chance.data.toList.drop 24 = dktX0_chance_1 := dk_seg dksX0_chance_0 24 rfl rfl
theorem dksX0_chance_2 : cX0_chance.data.toList.drop 47 = dktX0_chance_2 := dk_seg dksX0_chance_1 23 rfl rfl
theorem dksX0_chance_3 : cX0_chance.data.toList.drop 69 = dktX0_chance_3 := dk_seg dksX0_chance_2 22 rfl rfl
theorem dksX0_chance_4 : cX0_chance.data.toList.drop 93 = dktX0_chance_4 := dk_seg dksX0_chance_3 24 rfl rfl
theorem dX0_chance_0 : decode cX0_chance 0 = .ok (.aload_n 0, 1) := dk_42 (dk_at dksX0_chance_0 0 rfl rfl)
theorem dX0_chance_1 : decode cX0_chance 1 = .ok (.iload_n 1, 1) := dk_27 (dk_at dksX0_chance_0 1 rfl rfl)
theorem dX0_chance_2 : decode cX0_chance 2 = .ok (.iconst 1, 1) := dk_4 (dk_at dksX0_chance_0 2 rfl rfl)
theorem dX0_chance_3 : decode cX0_chance 3 = .ok (.bipush 100, 2) := dk_16 100 (dk_at dksX0_chance_0 3 rfl rfl)
theorem dX0_chance_5 : decode cX0_chance 5 = .ok (.invokevirtual 259, 3) := dk_182 1 3 (dk_at dksX0_chance_0 5 rfl rfl)
theorem dX0_chance_8 : decode cX0_chance 8 = .ok (.ifCond .ne 9, 3) := dk_154 0 9 (dk_at dksX0_chance_0 8 rfl rfl)
theorem dX0_chance_11 : decode cX0_chance 11 = .ok (.aload_n 0, 1) := dk_42 (dk_at dksX0_chance_0 11 rfl rfl)
theorem dX0_chance_12 : decode cX0_chance 12 = .ok (.iconst 3, 1) := dk_6 (dk_at dksX0_chance_0 12 rfl rfl)
theorem dX0_chance_13 : decode cX0_chance 13 = .ok (.invokevirtual 107, 3) := dk_182 0 107 (dk_at dksX0_chance_0 13 rfl rfl)
theorem dX0_chance_16 : decode cX0_chance 16 = .ok (.ireturn, 1) := dk_172 (dk_at dksX0_chance_0 16 rfl rfl)
theorem dX0_chance_17 : decode cX0_chance 17 = .ok (.aload_n 0, 1) := dk_42 (dk_at dksX0_chance_0 17 rfl rfl)
theorem dX0_chance_18 : decode cX0_chance 18 = .ok (.invokevirtual 330, 3) := dk_182 1 74 (dk_at dksX0_chance_0 18 rfl rfl)
theorem dX0_chance_21 : decode cX0_chance 21 = .ok (.iconst 0, 1) := dk_3 (dk_at dksX0_chance_0 21 rfl rfl)
theorem dX0_chance_22 : decode cX0_chance 22 = .ok (.istore_n 2, 1) := dk_61 (dk_at dksX0_chance_0 22 rfl rfl)
theorem dX0_chance_23 : decode cX0_chance 23 = .ok (.iconst 0, 1) := dk_3 (dk_at dksX0_chance_0 23 rfl rfl)
theorem dX0_chance_24 : decode cX0_chance 24 = .ok (.istore_n 3, 1) := dk_62 (dk_at dksX0_chance_1 0 rfl rfl)
theorem dX0_chance_25 : decode cX0_chance 25 = .ok (.iload_n 3, 1) := dk_29 (dk_at dksX0_chance_1 1 rfl rfl)
theorem dX0_chance_26 : decode cX0_chance 26 = .ok (.iload_n 1, 1) := dk_27 (dk_at dksX0_chance_1 2 rfl rfl)
theorem dX0_chance_27 : decode cX0_chance 27 = .ok (.if_icmp .ge 66, 3) := dk_162 0 66 (dk_at dksX0_chance_1 3 rfl rfl)
theorem dX0_chance_30 : decode cX0_chance 30 = .ok (.aload_n 0, 1) := dk_42 (dk_at dksX0_chance_1 6 rfl rfl)
theorem dX0_chance_31 : decode cX0_chance 31 = .ok (.bipush 100, 2) := dk_16 100 (dk_at dksX0_chance_1 7 rfl rfl)
theorem dX0_chance_33 : decode cX0_chance 33 = .ok (.invokevirtual 340, 3) := dk_182 1 84 (dk_at dksX0_chance_1 9 rfl rfl)
theorem dX0_chance_36 : decode cX0_chance 36 = .ok (.aload_n 0, 1) := dk_42 (dk_at dksX0_chance_1 12 rfl rfl)
theorem dX0_chance_37 : decode cX0_chance 37 = .ok (.getfield 33, 3) := dk_180 0 33 (dk_at dksX0_chance_1 13 rfl rfl)
theorem dX0_chance_40 : decode cX0_chance 40 = .ok (.getfield 343, 3) := dk_180 1 87 (dk_at dksX0_chance_1 16 rfl rfl)
theorem dX0_chance_43 : decode cX0_chance 43 = .ok (.if_icmp .ge 36, 3) := dk_162 0 36 (dk_at dksX0_chance_1 19 rfl rfl)
theorem dX0_chance_46 : decode cX0_chance 46 = .ok (.aload_n 0, 1) := dk_42 (dk_at dksX0_chance_1 22 rfl rfl)
theorem dX0_chance_47 : decode cX0_chance 47 = .ok (.invokevirtual 163, 3) := dk_182 0 163 (dk_at dksX0_chance_2 0 rfl rfl)
theorem dX0_chance_50 : decode cX0_chance 50 = .ok (.ifCond .le 29, 3) := dk_158 0 29 (dk_at dksX0_chance_2 3 rfl rfl)
theorem dX0_chance_53 : decode cX0_chance 53 = .ok (.iload_n 2, 1) := dk_28 (dk_at dksX0_chance_2 6 rfl rfl)
theorem dX0_chance_54 : decode cX0_chance 54 = .ok (.aload_n 0, 1) := dk_42 (dk_at dksX0_chance_2 7 rfl rfl)
theorem dX0_chance_55 : decode cX0_chance 55 = .ok (.getfield 71, 3) := dk_180 0 71 (dk_at dksX0_chance_2 8 rfl rfl)
theorem dX0_chance_58 : decode cX0_chance 58 = .ok (.aload_n 0, 1) := dk_42 (dk_at dksX0_chance_2 11 rfl rfl)
theorem dX0_chance_59 : decode cX0_chance 59 = .ok (.aload_n 0, 1) := dk_42 (dk_at dksX0_chance_2 12 rfl rfl)
theorem dX0_chance_60 : decode cX0_chance 60 = .ok (.invokevirtual 163, 3) := dk_182 0 163 (dk_at dksX0_chance_2 13 rfl rfl)
theorem dX0_chance_63 : decode cX0_chance 63 = .ok (.invokevirtual 340, 3) := dk_182 1 84 (dk_at dksX0_chance_2 16 rfl rfl)
theorem dX0_chance_66 : decode cX0_chance 66 = .ok (.invokevirtual 346, 3) := dk_182 1 90 (dk_at dksX0_chance_2 19 rfl rfl)
theorem dX0_chance_69 : decode cX0_chance 69 = .ok (.ifCond .eq 7, 3) := dk_153 0 7 (dk_at dksX0_chance_3 0 rfl rfl)
theorem dX0_chance_72 : decode cX0_chance 72 = .ok (.iconst 1, 1) := dk_4 (dk_at dksX0_chance_3 3 rfl rfl)
theorem dX0_chance_73 : decode cX0_chance 73 = .ok (.goto 4, 3) := dk_167 0 4 (dk_at dksX0_chance_3 4 rfl rfl)
theorem dX0_chance_76 : decode cX0_chance 76 = .ok (.iconst 0, 1) := dk_3 (dk_at dksX0_chance_3 7 rfl rfl)
theorem dX0_chance_77 : decode cX0_chance 77 = .ok (.iadd, 1) := dk_96 (dk_at dksX0_chance_3 8 rfl rfl)
theorem dX0_chance_78 : decode cX0_chance 78 = .ok (.istore_n 2, 1) := dk_61 (dk_at dksX0_chance_3 9 rfl rfl)
theorem dX0_chance_79 : decode cX0_chance 79 = .ok (.aload_n 0, 1) := dk_42 (dk_at dksX0_chance_3 10 rfl rfl)
theorem dX0_chance_80 : decode cX0_chance 80 = .ok (.getfield 71, 3) := dk_180 0 71 (dk_at dksX0_chance_3 11 rfl rfl)
theorem dX0_chance_83 : decode cX0_chance 83 = .ok (.invokevirtual 289, 3) := dk_182 1 33 (dk_at dksX0_chance_3 14 rfl rfl)
theorem dX0_chance_86 : decode cX0_chance 86 = .ok (.pop, 1) := dk_87 (dk_at dksX0_chance_3 17 rfl rfl)
theorem dX0_chance_87 : decode cX0_chance 87 = .ok (.iinc 3 1, 3) := dk_132 3 1 (dk_at dksX0_chance_3 18 rfl rfl)
theorem dX0_chance_90 : decode cX0_chance 90 = .ok (.goto (-65), 3) := dk_167 255 191 (dk_at dksX0_chance_3 21 rfl rfl)
theorem dX0_chance_93 : decode cX0_chance 93 = .ok (.iload_n 2, 1) := dk_28 (dk_at dksX0_chance_4 0 rfl rfl)
theorem dX0_chance_94 : decode cX0_chance 94 = .ok (.ireturn, 1) := dk_172 (dk_at dksX0_chance_4 1 rfl rfl)
abbrev cX0_draw : ByteArray := prog_1_method_59_code
def yX0_draw : MethodName := ⟨RX0, "draw", "(I)I"⟩
def dkwX0_draw_1 : List UInt8 := [20, 1, 82, 109, 27, 133, 113, 136, 172]
abbrev dktX0_draw_1 : List UInt8 := dkwX0_draw_1 ++ []
def dkwX0_draw_0 : List UInt8 := [42, 20, 1, 76, 42, 180, 0, 97, 105, 20, 1, 78, 97, 20, 1, 80, 113, 181, 0, 97, 42, 180, 0, 97]
abbrev dktX0_draw_0 : List UInt8 := dkwX0_draw_0 ++ dktX0_draw_1
theorem dksX0_draw_0 : cX0_draw.data.toList.drop 0 = dktX0_draw_0 := by decide +kernel
theorem dksX0_draw_1 : cX0_draw.data.toList.drop 24 = dktX0_draw_1 := dk_seg dksX0_draw_0 24 rfl rfl
theorem dX0_draw_0 : decode cX0_draw 0 = .ok (.aload_n 0, 1) := dk_42 (dk_at dksX0_draw_0 0 rfl rfl)
theorem dX0_draw_1 : decode cX0_draw 1 = .ok (.ldc2_w 332, 3) := dk_20 1 76 (dk_at dksX0_draw_0 1 rfl rfl)
theorem dX0_draw_4 : decode cX0_draw 4 = .ok (.aload_n 0, 1) := dk_42 (dk_at dksX0_draw_0 4 rfl rfl)
theorem dX0_draw_5 : decode cX0_draw 5 = .ok (.getfield 97, 3) := dk_180 0 97 (dk_at dksX0_draw_0 5 rfl rfl)
theorem dX0_draw_8 : decode cX0_draw 8 = .ok (.lmul, 1) := dk_105 (dk_at dksX0_draw_0 8 rfl rfl)
theorem dX0_draw_9 : decode cX0_draw 9 = .ok (.ldc2_w 334, 3) := dk_20 1 78 (dk_at dksX0_draw_0 9 rfl rfl)
theorem dX0_draw_12 : decode cX0_draw 12 = .ok (.ladd, 1) := dk_97 (dk_at dksX0_draw_0 12 rfl rfl)
theorem dX0_draw_13 : decode cX0_draw 13 = .ok (.ldc2_w 336, 3) := dk_20 1 80 (dk_at dksX0_draw_0 13 rfl rfl)
theorem dX0_draw_16 : decode cX0_draw 16 = .ok (.lrem, 1) := dk_113 (dk_at dksX0_draw_0 16 rfl rfl)
theorem dX0_draw_17 : decode cX0_draw 17 = .ok (.putfield 97, 3) := dk_181 0 97 (dk_at dksX0_draw_0 17 rfl rfl)
theorem dX0_draw_20 : decode cX0_draw 20 = .ok (.aload_n 0, 1) := dk_42 (dk_at dksX0_draw_0 20 rfl rfl)
theorem dX0_draw_21 : decode cX0_draw 21 = .ok (.getfield 97, 3) := dk_180 0 97 (dk_at dksX0_draw_0 21 rfl rfl)
theorem dX0_draw_24 : decode cX0_draw 24 = .ok (.ldc2_w 338, 3) := dk_20 1 82 (dk_at dksX0_draw_1 0 rfl rfl)
theorem dX0_draw_27 : decode cX0_draw 27 = .ok (.ldiv, 1) := dk_109 (dk_at dksX0_draw_1 3 rfl rfl)
theorem dX0_draw_28 : decode cX0_draw 28 = .ok (.iload_n 1, 1) := dk_27 (dk_at dksX0_draw_1 4 rfl rfl)
theorem dX0_draw_29 : decode cX0_draw 29 = .ok (.i2l, 1) := dk_133 (dk_at dksX0_draw_1 5 rfl rfl)
theorem dX0_draw_30 : decode cX0_draw 30 = .ok (.lrem, 1) := dk_113 (dk_at dksX0_draw_1 6 rfl rfl)
theorem dX0_draw_31 : decode cX0_draw 31 = .ok (.l2i, 1) := dk_136 (dk_at dksX0_draw_1 7 rfl rfl)
theorem dX0_draw_32 : decode cX0_draw 32 = .ok (.ireturn, 1) := dk_172 (dk_at dksX0_draw_1 8 rfl rfl)
abbrev cX0_seed : ByteArray := prog_1_method_61_code
def yX0_seed : MethodName := ⟨RX0, "seed", "(I)Z"⟩
def dkwX0_seed_1 : List UInt8 := [4, 172]
abbrev dktX0_seed_1 : List UInt8 := dkwX0_seed_1 ++ []
def dkwX0_seed_0 : List UInt8 := [27, 156, 0, 17, 42, 8, 182, 0, 107, 155, 0, 7, 4, 167, 0, 4, 3, 172, 42, 27, 133, 181, 0, 97]
abbrev dktX0_seed_0 : List UInt8 := dkwX0_seed_0 ++ dktX0_seed_1
theorem dksX0_seed_0 : cX0_seed.data.toList.drop 0 = dktX0_seed_0 := by decide +kernel
theorem dksX0_seed_1 : cX0_seed.data.toList.drop 24 = dktX0_seed_1 := dk_seg dksX0_seed_0 24 rfl rfl
theorem dX0_seed_0 : decode cX0_seed 0 = .ok (.iload_n 1, 1) := dk_27 (dk_at dksX0_seed_0 0 rfl rfl)
theorem dX0_seed_1 : decode cX0_seed 1 = .ok (.ifCond .ge 17, 3) := dk_156 0 17 (dk_at dksX0_seed_0 1 rfl rfl)
theorem dX0_seed_4 : decode cX0_seed 4 = .ok (.aload_n 0, 1) := dk_42 (dk_at dksX0_seed_0 4 rfl rfl)
theorem dX0_seed_5 : decode cX0_seed 5 = .ok (.iconst 5, 1) := dk_8 (dk_at dksX0_seed_0 5 rfl rfl)
theorem dX0_seed_6 : decode cX0_seed 6 = .ok (.invokevirtual 107, 3) := dk_182 0 107 (dk_at dksX0_seed_0 6 rfl rfl)
theorem dX0_seed_9 : decode cX0_seed 9 = .ok (.ifCond .lt 7, 3) := dk_155 0 7 (dk_at dksX0_seed_0 9 rfl rfl)
theorem dX0_seed_12 : decode cX0_seed 12 = .ok (.iconst 1, 1) := dk_4 (dk_at dksX0_seed_0 12 rfl rfl)
theorem dX0_seed_13 : decode cX0_seed 13 = .ok (.goto 4, 3) := dk_167 0 4 (dk_at dksX0_seed_0 13 rfl rfl)
theorem dX0_seed_16 : decode cX0_seed 16 = .ok (.iconst 0, 1) := dk_3 (dk_at dksX0_seed_0 16 rfl rfl)
theorem dX0_seed_17 : decode cX0_seed 17 = .ok (.ireturn, 1) := dk_172 (dk_at dksX0_seed_0 17 rfl rfl)
theorem dX0_seed_18 : decode cX0_seed 18 = .ok (.aload_n 0, 1) := dk_42 (dk_at dksX0_seed_0 18 rfl rfl)
theorem dX0_seed_19 : decode cX0_seed 19 = .ok (.iload_n 1, 1) := dk_27 (dk_at dksX0_seed_0 19 rfl rfl)
theorem dX0_seed_20 : decode cX0_seed 20 = .ok (.i2l, 1) := dk_133 (dk_at dksX0_seed_0 20 rfl rfl)
theorem dX0_seed_21 : decode cX0_seed 21 = .ok (.putfield 97, 3) := dk_181 0 97 (dk_at dksX0_seed_0 21 rfl rfl)
theorem dX0_seed_24 : decode cX0_seed 24 = .ok (.iconst 1, 1) := dk_4 (dk_at dksX0_seed_1 0 rfl rfl)
theorem dX0_seed_25 : decode cX0_seed 25 = .ok (.ireturn, 1) := dk_172 (dk_at dksX0_seed_1 1 rfl rfl)
abbrev cX0_ask : ByteArray := prog_1_method_63_code
def yX0_ask : MethodName := ⟨RX0, "ask", "(I)J"⟩
def dkwX0_ask_10 : List UInt8 := [167, 255, 99, 45, 182, 1, 112, 173]
abbrev dktX0_ask_10 : List UInt8 := dkwX0_ask_10 ++ []
def dkwX0_ask_9 : List UInt8 := [133, 80, 45, 42, 180, 1, 93, 42, 180, 0, 61, 182, 1, 106, 42, 89, 180, 1, 93, 4, 96, 181, 1, 93]
abbrev dktX0_ask_9 : List UInt8 := dkwX0_ask_9 ++ dktX0_ask_10
def dkwX0_ask_8 : List UInt8 := [42, 180, 1, 93, 133, 80, 42, 180, 0, 61, 180, 1, 100, 16, 7, 42, 27, 42, 180, 1, 93, 182, 0, 253]
abbrev dktX0_ask_8 : List UInt8 := dkwX0_ask_8 ++ dktX0_ask_9
def dkwX0_ask_7 : List UInt8 := [42, 180, 0, 71, 21, 4, 42, 180, 1, 93, 182, 1, 103, 133, 80, 42, 180, 0, 61, 180, 1, 100, 16, 6]
abbrev dktX0_ask_7 : List UInt8 := dkwX0_ask_7 ++ dktX0_ask_8
def dkwX0_ask_6 : List UInt8 := [180, 0, 71, 180, 0, 247, 21, 4, 50, 42, 180, 1, 93, 46, 133, 80, 42, 180, 0, 61, 180, 1, 100, 8]
abbrev dktX0_ask_6 : List UInt8 := dkwX0_ask_6 ++ dktX0_ask_7
def dkwX0_ask_5 : List UInt8 := [42, 42, 180, 1, 93, 182, 0, 189, 180, 0, 230, 133, 80, 42, 180, 0, 61, 180, 1, 100, 7, 42]
abbrev dktX0_ask_5 : List UInt8 := dkwX0_ask_5 ++ dktX0_ask_6
def dkwX0_ask_4 : List UInt8 := [180, 1, 100, 3, 42, 180, 0, 71, 180, 0, 201, 16, 24, 112, 133, 80, 42, 180, 0, 61, 180, 1, 100, 6]
abbrev dktX0_ask_4 : List UInt8 := dkwX0_ask_4 ++ dktX0_ask_5
def dkwX0_ask_3 : List UInt8 := [54, 4, 42, 3, 181, 1, 93, 42, 180, 1, 93, 42, 182, 0, 163, 162, 0, 152, 42, 180, 0, 61]
abbrev dktX0_ask_3 : List UInt8 := dkwX0_ask_3 ++ dktX0_ask_4
def dkwX0_ask_2 : List UInt8 := [181, 0, 115, 42, 25, 4, 180, 0, 131, 181, 0, 41, 20, 1, 18, 173, 42, 180, 0, 71, 27, 182, 1, 30]
abbrev dktX0_ask_2 : List UInt8 := dkwX0_ask_2 ++ dktX0_ask_3
def dkwX0_ask_1 : List UInt8 := [181, 0, 41, 42, 180, 0, 50, 28, 182, 1, 96, 78, 167, 0, 27, 58, 4, 42, 25, 4, 180, 0, 128]
abbrev dktX0_ask_1 : List UInt8 := dkwX0_ask_1 ++ dktX0_ask_2
def dkwX0_ask_0 : List UInt8 := [42, 182, 0, 118, 61, 42, 27, 182, 0, 236, 154, 0, 7, 20, 1, 18, 173, 42, 3, 181, 0, 115, 42, 2]
abbrev dktX0_ask_0 : List UInt8 := dkwX0_ask_0 ++ dktX0_ask_1
theorem dksX0_ask_0 : cX0_ask.data.toList.drop 0 = dktX0_ask_0 := by decide +kernel
theorem dksX0_ask_1 : cX0_ask.data.toList.drop 24 = dktX0_ask_1 := dk_seg dksX0_ask_0 24 rfl rfl
theorem dksX0_ask_2 : cX0_ask.data.toList.drop 47 = dktX0_ask_2 := dk_seg dksX0_ask_1 23 rfl rfl
theorem dksX0_ask_3 : cX0_ask.data.toList.drop 71 = dktX0_ask_3 := dk_seg dksX0_ask_2 24 rfl rfl
theorem dksX0_ask_4 : cX0_ask.data.toList.drop 93 = dktX0_ask_4 := dk_seg dksX0_ask_3 22 rfl rfl
theorem dksX0_ask_5 : cX0_ask.data.toList.drop 117 = dktX0_ask_5 := dk_seg dksX0_ask_4 24 rfl rfl
theorem dksX0_ask_6 : cX0_ask.data.toList.drop 139 = dktX0_ask_6 := dk_seg dksX0_ask_5 22 rfl rfl
theorem dksX0_ask_7 : cX0_ask.data.toList.drop 163 = dktX0_ask_7 := dk_seg dksX0_ask_6 24 rfl rfl
theorem dksX0_ask_8 : cX0_ask.data.toList.drop 187 = dktX0_ask_8 := dk_seg dksX0_ask_7 24 rfl rfl
theorem dksX0_ask_9 : cX0_ask.data.toList.drop 211 = dktX0_ask_9 := dk_seg dksX0_ask_8 24 rfl rfl
theorem dksX0_ask_10 : cX0_ask.data.toList.drop 235 = dktX0_ask_10 := dk_seg dksX0_ask_9 24 rfl rfl
theorem dX0_ask_0 : decode cX0_ask 0 = .ok (.aload_n 0, 1) := dk_42 (dk_at dksX0_ask_0 0 rfl rfl)
theorem dX0_ask_1 : decode cX0_ask 1 = .ok (.invokevirtual 118, 3) := dk_182 0 118 (dk_at dksX0_ask_0 1 rfl rfl)
theorem dX0_ask_4 : decode cX0_ask 4 = .ok (.istore_n 2, 1) := dk_61 (dk_at dksX0_ask_0 4 rfl rfl)
theorem dX0_ask_5 : decode cX0_ask 5 = .ok (.aload_n 0, 1) := dk_42 (dk_at dksX0_ask_0 5 rfl rfl)
theorem dX0_ask_6 : decode cX0_ask 6 = .ok (.iload_n 1, 1) := dk_27 (dk_at dksX0_ask_0 6 rfl rfl)
theorem dX0_ask_7 : decode cX0_ask 7 = .ok (.invokevirtual 236, 3) := dk_182 0 236 (dk_at dksX0_ask_0 7 rfl rfl)
theorem dX0_ask_10 : decode cX0_ask 10 = .ok (.ifCond .ne 7, 3) := dk_154 0 7 (dk_at dksX0_ask_0 10 rfl rfl)
theorem dX0_ask_13 : decode cX0_ask 13 = .ok (.ldc2_w 274, 3) := dk_20 1 18 (dk_at dksX0_ask_0 13 rfl rfl)
theorem dX0_ask_16 : decode cX0_ask 16 = .ok (.lreturn, 1) := dk_173 (dk_at dksX0_ask_0 16 rfl rfl)
theorem dX0_ask_17 : decode cX0_ask 17 = .ok (.aload_n 0, 1) := dk_42 (dk_at dksX0_ask_0 17 rfl rfl)
theorem dX0_ask_18 : decode cX0_ask 18 = .ok (.iconst 0, 1) := dk_3 (dk_at dksX0_ask_0 18 rfl rfl)
theorem dX0_ask_19 : decode cX0_ask 19 = .ok (.putfield 115, 3) := dk_181 0 115 (dk_at dksX0_ask_0 19 rfl rfl)
theorem dX0_ask_22 : decode cX0_ask 22 = .ok (.aload_n 0, 1) := dk_42 (dk_at dksX0_ask_0 22 rfl rfl)
theorem dX0_ask_23 : decode cX0_ask 23 = .ok (.iconst (-1), 1) := dk_2 (dk_at dksX0_ask_0 23 rfl rfl)
theorem dX0_ask_24 : decode cX0_ask 24 = .ok (.putfield 41, 3) := dk_181 0 41 (dk_at dksX0_ask_1 0 rfl rfl)
theorem dX0_ask_27 : decode cX0_ask 27 = .ok (.aload_n 0, 1) := dk_42 (dk_at dksX0_ask_1 3 rfl rfl)
theorem dX0_ask_28 : decode cX0_ask 28 = .ok (.getfield 50, 3) := dk_180 0 50 (dk_at dksX0_ask_1 4 rfl rfl)
theorem dX0_ask_31 : decode cX0_ask 31 = .ok (.iload_n 2, 1) := dk_28 (dk_at dksX0_ask_1 7 rfl rfl)
theorem dX0_ask_32 : decode cX0_ask 32 = .ok (.invokevirtual 352, 3) := dk_182 1 96 (dk_at dksX0_ask_1 8 rfl rfl)
theorem dX0_ask_35 : decode cX0_ask 35 = .ok (.astore_n 3, 1) := dk_78 (dk_at dksX0_ask_1 11 rfl rfl)
theorem dX0_ask_36 : decode cX0_ask 36 = .ok (.goto 27, 3) := dk_167 0 27 (dk_at dksX0_ask_1 12 rfl rfl)
theorem dX0_ask_39 : decode cX0_ask 39 = .ok (.astore 4, 2) := dk_58 4 (dk_at dksX0_ask_1 15 rfl rfl)
theorem dX0_ask_41 : decode cX0_ask 41 = .ok (.aload_n 0, 1) := dk_42 (dk_at dksX0_ask_1 17 rfl rfl)
theorem dX0_ask_42 : decode cX0_ask 42 = .ok (.aload 4, 2) := dk_25 4 (dk_at dksX0_ask_1 18 rfl rfl)
theorem dX0_ask_44 : decode cX0_ask 44 = .ok (.getfield 128, 3) := dk_180 0 128 (dk_at dksX0_ask_1 20 rfl rfl)
theorem dX0_ask_47 : decode cX0_ask 47 = .ok (.putfield 115, 3) := dk_181 0 115 (dk_at dksX0_ask_2 0 rfl rfl)
theorem dX0_ask_50 : decode cX0_ask 50 = .ok (.aload_n 0, 1) := dk_42 (dk_at dksX0_ask_2 3 rfl rfl)
theorem dX0_ask_51 : decode cX0_ask 51 = .ok (.aload 4, 2) := dk_25 4 (dk_at dksX0_ask_2 4 rfl rfl)
theorem dX0_ask_53 : decode cX0_ask 53 = .ok (.getfield 131, 3) := dk_180 0 131 (dk_at dksX0_ask_2 6 rfl rfl)
theorem dX0_ask_56 : decode cX0_ask 56 = .ok (.putfield 41, 3) := dk_181 0 41 (dk_at dksX0_ask_2 9 rfl rfl)
theorem dX0_ask_59 : decode cX0_ask 59 = .ok (.ldc2_w 274, 3) := dk_20 1 18 (dk_at dksX0_ask_2 12 rfl rfl)
theorem dX0_ask_62 : decode cX0_ask 62 = .ok (.lreturn, 1) := dk_173 (dk_at dksX0_ask_2 15 rfl rfl)
theorem dX0_ask_63 : decode cX0_ask 63 = .ok (.aload_n 0, 1) := dk_42 (dk_at dksX0_ask_2 16 rfl rfl)
theorem dX0_ask_64 : decode cX0_ask 64 = .ok (.getfield 71, 3) := dk_180 0 71 (dk_at dksX0_ask_2 17 rfl rfl)
theorem dX0_ask_67 : decode cX0_ask 67 = .ok (.iload_n 1, 1) := dk_27 (dk_at dksX0_ask_2 20 rfl rfl)
theorem dX0_ask_68 : decode cX0_ask 68 = .ok (.invokevirtual 286, 3) := dk_182 1 30 (dk_at dksX0_ask_2 21 rfl rfl)
theorem dX0_ask_71 : decode cX0_ask 71 = .ok (.istore 4, 2) := dk_54 4 (dk_at dksX0_ask_3 0 rfl rfl)
theorem dX0_ask_73 : decode cX0_ask 73 = .ok (.aload_n 0, 1) := dk_42 (dk_at dksX0_ask_3 2 rfl rfl)
theorem dX0_ask_74 : decode cX0_ask 74 = .ok (.iconst 0, 1) := dk_3 (dk_at dksX0_ask_3 3 rfl rfl)
theorem dX0_ask_75 : decode cX0_ask 75 = .ok (.putfield 349, 3) := dk_181 1 93 (dk_at dksX0_ask_3 4 rfl rfl)
theorem dX0_ask_78 : decode cX0_ask 78 = .ok (.aload_n 0, 1) := dk_42 (dk_at dksX0_ask_3 7 rfl rfl)
theorem dX0_ask_79 : decode cX0_ask 79 = .ok (.getfield 349, 3) := dk_180 1 93 (dk_at dksX0_ask_3 8 rfl rfl)
theorem dX0_ask_82 : decode cX0_ask 82 = .ok (.aload_n 0, 1) := dk_42 (dk_at dksX0_ask_3 11 rfl rfl)
theorem dX0_ask_83 : decode cX0_ask 83 = .ok (.invokevirtual 163, 3) := dk_182 0 163 (dk_at dksX0_ask_3 12 rfl rfl)
theorem dX0_ask_86 : decode cX0_ask 86 = .ok (.if_icmp .ge 152, 3) := dk_162 0 152 (dk_at dksX0_ask_3 15 rfl rfl)
theorem dX0_ask_89 : decode cX0_ask 89 = .ok (.aload_n 0, 1) := dk_42 (dk_at dksX0_ask_3 18 rfl rfl)
theorem dX0_ask_90 : decode cX0_ask 90 = .ok (.getfield 61, 3) := dk_180 0 61 (dk_at dksX0_ask_3 19 rfl rfl)
theorem dX0_ask_93 : decode cX0_ask 93 = .ok (.getfield 356, 3) := dk_180 1 100 (dk_at dksX0_ask_4 0 rfl rfl)
theorem dX0_ask_96 : decode cX0_ask 96 = .ok (.iconst 0, 1) := dk_3 (dk_at dksX0_ask_4 3 rfl rfl)
theorem dX0_ask_97 : decode cX0_ask 97 = .ok (.aload_n 0, 1) := dk_42 (dk_at dksX0_ask_4 4 rfl rfl)
theorem dX0_ask_98 : decode cX0_ask 98 = .ok (.getfield 71, 3) := dk_180 0 71 (dk_at dksX0_ask_4 5 rfl rfl)
theorem dX0_ask_101 : decode cX0_ask 101 = .ok (.getfield 201, 3) := dk_180 0 201 (dk_at dksX0_ask_4 8 rfl rfl)
theorem dX0_ask_104 : decode cX0_ask 104 = .ok (.bipush 24, 2) := dk_16 24 (dk_at dksX0_ask_4 11 rfl rfl)
theorem dX0_ask_106 : decode cX0_ask 106 = .ok (.irem, 1) := dk_112 (dk_at dksX0_ask_4 13 rfl rfl)
theorem dX0_ask_107 : decode cX0_ask 107 = .ok (.i2l, 1) := dk_133 (dk_at dksX0_ask_4 14 rfl rfl)
theorem dX0_ask_108 : decode cX0_ask 108 = .ok (.lastore, 1) := dk_80 (dk_at dksX0_ask_4 15 rfl rfl)
theorem dX0_ask_109 : decode cX0_ask 109 = .ok (.aload_n 0, 1) := dk_42 (dk_at dksX0_ask_4 16 rfl rfl)
theorem dX0_ask_110 : decode cX0_ask 110 = .ok (.getfield 61, 3) := dk_180 0 61 (dk_at dksX0_ask_4 17 rfl rfl)
theorem dX0_ask_113 : decode cX0_ask 113 = .ok (.getfield 356, 3) := dk_180 1 100 (dk_at dksX0_ask_4 20 rfl rfl)
theorem dX0_ask_116 : decode cX0_ask 116 = .ok (.iconst 3, 1) := dk_6 (dk_at dksX0_ask_4 23 rfl rfl)
theorem dX0_ask_117 : decode cX0_ask 117 = .ok (.aload_n 0, 1) := dk_42 (dk_at dksX0_ask_5 0 rfl rfl)
theorem dX0_ask_118 : decode cX0_ask 118 = .ok (.aload_n 0, 1) := dk_42 (dk_at dksX0_ask_5 1 rfl rfl)
theorem dX0_ask_119 : decode cX0_ask 119 = .ok (.getfield 349, 3) := dk_180 1 93 (dk_at dksX0_ask_5 2 rfl rfl)
theorem dX0_ask_122 : decode cX0_ask 122 = .ok (.invokevirtual 189, 3) := dk_182 0 189 (dk_at dksX0_ask_5 5 rfl rfl)
theorem dX0_ask_125 : decode cX0_ask 125 = .ok (.getfield 230, 3) := dk_180 0 230 (dk_at dksX0_ask_5 8 rfl rfl)
theorem dX0_ask_128 : decode cX0_ask 128 = .ok (.i2l, 1) := dk_133 (dk_at dksX0_ask_5 11 rfl rfl)
theorem dX0_ask_129 : decode cX0_ask 129 = .ok (.lastore, 1) := dk_80 (dk_at dksX0_ask_5 12 rfl rfl)
theorem dX0_ask_130 : decode cX0_ask 130 = .ok (.aload_n 0, 1) := dk_42 (dk_at dksX0_ask_5 13 rfl rfl)
theorem dX0_ask_131 : decode cX0_ask 131 = .ok (.getfield 61, 3) := dk_180 0 61 (dk_at dksX0_ask_5 14 rfl rfl)
theorem dX0_ask_134 : decode cX0_ask 134 = .ok (.getfield 356, 3) := dk_180 1 100 (dk_at dksX0_ask_5 17 rfl rfl)
theorem dX0_ask_137 : decode cX0_ask 137 = .ok (.iconst 4, 1) := dk_7 (dk_at dksX0_ask_5 20 rfl rfl)
theorem dX0_ask_138 : decode cX0_ask 138 = .ok (.aload_n 0, 1) := dk_42 (dk_at dksX0_ask_5 21 rfl rfl)
theorem dX0_ask_139 : decode cX0_ask 139 = .ok (.getfield 71, 3) := dk_180 0 71 (dk_at dksX0_ask_6 0 rfl rfl)
theorem dX0_ask_142 : decode cX0_ask 142 = .ok (.getfield 247, 3) := dk_180 0 247 (dk_at dksX0_ask_6 3 rfl rfl)
theorem dX0_ask_145 : decode cX0_ask 145 = .ok (.iload 4, 2) := dk_21 4 (dk_at dksX0_ask_6 6 rfl rfl)
theorem dX0_ask_147 : decode cX0_ask 147 = .ok (.aaload, 1) := dk_50 (dk_at dksX0_ask_6 8 rfl rfl)
theorem dX0_ask_148 : decode cX0_ask 148 = .ok (.aload_n 0, 1) := dk_42 (dk_at dksX0_ask_6 9 rfl rfl)
theorem dX0_ask_149 : decode cX0_ask 149 = .ok (.getfield 349, 3) := dk_180 1 93 (dk_at dksX0_ask_6 10 rfl rfl)
theorem dX0_ask_152 : decode cX0_ask 152 = .ok (.iaload, 1) := dk_46 (dk_at dksX0_ask_6 13 rfl rfl)
theorem dX0_ask_153 : decode cX0_ask 153 = .ok (.i2l, 1) := dk_133 (dk_at dksX0_ask_6 14 rfl rfl)
theorem dX0_ask_154 : decode cX0_ask 154 = .ok (.lastore, 1) := dk_80 (dk_at dksX0_ask_6 15 rfl rfl)
theorem dX0_ask_155 : decode cX0_ask 155 = .ok (.aload_n 0, 1) := dk_42 (dk_at dksX0_ask_6 16 rfl rfl)
theorem dX0_ask_156 : decode cX0_ask 156 = .ok (.getfield 61, 3) := dk_180 0 61 (dk_at dksX0_ask_6 17 rfl rfl)
theorem dX0_ask_159 : decode cX0_ask 159 = .ok (.getfield 356, 3) := dk_180 1 100 (dk_at dksX0_ask_6 20 rfl rfl)
theorem dX0_ask_162 : decode cX0_ask 162 = .ok (.iconst 5, 1) := dk_8 (dk_at dksX0_ask_6 23 rfl rfl)
theorem dX0_ask_163 : decode cX0_ask 163 = .ok (.aload_n 0, 1) := dk_42 (dk_at dksX0_ask_7 0 rfl rfl)
theorem dX0_ask_164 : decode cX0_ask 164 = .ok (.getfield 71, 3) := dk_180 0 71 (dk_at dksX0_ask_7 1 rfl rfl)
theorem dX0_ask_167 : decode cX0_ask 167 = .ok (.iload 4, 2) := dk_21 4 (dk_at dksX0_ask_7 4 rfl rfl)
theorem dX0_ask_169 : decode cX0_ask 169 = .ok (.aload_n 0, 1) := dk_42 (dk_at dksX0_ask_7 6 rfl rfl)
theorem dX0_ask_170 : decode cX0_ask 170 = .ok (.getfield 349, 3) := dk_180 1 93 (dk_at dksX0_ask_7 7 rfl rfl)
theorem dX0_ask_173 : decode cX0_ask 173 = .ok (.invokevirtual 359, 3) := dk_182 1 103 (dk_at dksX0_ask_7 10 rfl rfl)
theorem dX0_ask_176 : decode cX0_ask 176 = .ok (.i2l, 1) := dk_133 (dk_at dksX0_ask_7 13 rfl rfl)
theorem dX0_ask_177 : decode cX0_ask 177 = .ok (.lastore, 1) := dk_80 (dk_at dksX0_ask_7 14 rfl rfl)
theorem dX0_ask_178 : decode cX0_ask 178 = .ok (.aload_n 0, 1) := dk_42 (dk_at dksX0_ask_7 15 rfl rfl)
theorem dX0_ask_179 : decode cX0_ask 179 = .ok (.getfield 61, 3) := dk_180 0 61 (dk_at dksX0_ask_7 16 rfl rfl)
theorem dX0_ask_182 : decode cX0_ask 182 = .ok (.getfield 356, 3) := dk_180 1 100 (dk_at dksX0_ask_7 19 rfl rfl)
theorem dX0_ask_185 : decode cX0_ask 185 = .ok (.bipush 6, 2) := dk_16 6 (dk_at dksX0_ask_7 22 rfl rfl)
theorem dX0_ask_187 : decode cX0_ask 187 = .ok (.aload_n 0, 1) := dk_42 (dk_at dksX0_ask_8 0 rfl rfl)
theorem dX0_ask_188 : decode cX0_ask 188 = .ok (.getfield 349, 3) := dk_180 1 93 (dk_at dksX0_ask_8 1 rfl rfl)
theorem dX0_ask_191 : decode cX0_ask 191 = .ok (.i2l, 1) := dk_133 (dk_at dksX0_ask_8 4 rfl rfl)
theorem dX0_ask_192 : decode cX0_ask 192 = .ok (.lastore, 1) := dk_80 (dk_at dksX0_ask_8 5 rfl rfl)
theorem dX0_ask_193 : decode cX0_ask 193 = .ok (.aload_n 0, 1) := dk_42 (dk_at dksX0_ask_8 6 rfl rfl)
theorem dX0_ask_194 : decode cX0_ask 194 = .ok (.getfield 61, 3) := dk_180 0 61 (dk_at dksX0_ask_8 7 rfl rfl)
theorem dX0_ask_197 : decode cX0_ask 197 = .ok (.getfield 356, 3) := dk_180 1 100 (dk_at dksX0_ask_8 10 rfl rfl)
theorem dX0_ask_200 : decode cX0_ask 200 = .ok (.bipush 7, 2) := dk_16 7 (dk_at dksX0_ask_8 13 rfl rfl)
theorem dX0_ask_202 : decode cX0_ask 202 = .ok (.aload_n 0, 1) := dk_42 (dk_at dksX0_ask_8 15 rfl rfl)
theorem dX0_ask_203 : decode cX0_ask 203 = .ok (.iload_n 1, 1) := dk_27 (dk_at dksX0_ask_8 16 rfl rfl)
theorem dX0_ask_204 : decode cX0_ask 204 = .ok (.aload_n 0, 1) := dk_42 (dk_at dksX0_ask_8 17 rfl rfl)
theorem dX0_ask_205 : decode cX0_ask 205 = .ok (.getfield 349, 3) := dk_180 1 93 (dk_at dksX0_ask_8 18 rfl rfl)
theorem dX0_ask_208 : decode cX0_ask 208 = .ok (.invokevirtual 253, 3) := dk_182 0 253 (dk_at dksX0_ask_8 21 rfl rfl)
theorem dX0_ask_211 : decode cX0_ask 211 = .ok (.i2l, 1) := dk_133 (dk_at dksX0_ask_9 0 rfl rfl)
theorem dX0_ask_212 : decode cX0_ask 212 = .ok (.lastore, 1) := dk_80 (dk_at dksX0_ask_9 1 rfl rfl)
theorem dX0_ask_213 : decode cX0_ask 213 = .ok (.aload_n 3, 1) := dk_45 (dk_at dksX0_ask_9 2 rfl rfl)
theorem dX0_ask_214 : decode cX0_ask 214 = .ok (.aload_n 0, 1) := dk_42 (dk_at dksX0_ask_9 3 rfl rfl)
theorem dX0_ask_215 : decode cX0_ask 215 = .ok (.getfield 349, 3) := dk_180 1 93 (dk_at dksX0_ask_9 4 rfl rfl)
theorem dX0_ask_218 : decode cX0_ask 218 = .ok (.aload_n 0, 1) := dk_42 (dk_at dksX0_ask_9 7 rfl rfl)
theorem dX0_ask_219 : decode cX0_ask 219 = .ok (.getfield 61, 3) := dk_180 0 61 (dk_at dksX0_ask_9 8 rfl rfl)
theorem dX0_ask_222 : decode cX0_ask 222 = .ok (.invokevirtual 362, 3) := dk_182 1 106 (dk_at dksX0_ask_9 11 rfl rfl)
theorem dX0_ask_225 : decode cX0_ask 225 = .ok (.aload_n 0, 1) := dk_42 (dk_at dksX0_ask_9 14 rfl rfl)
theorem dX0_ask_226 : decode cX0_ask 226 = .ok (.dup, 1) := dk_89 (dk_at dksX0_ask_9 15 rfl rfl)
theorem dX0_ask_227 : decode cX0_ask 227 = .ok (.getfield 349, 3) := dk_180 1 93 (dk_at dksX0_ask_9 16 rfl rfl)
theorem dX0_ask_230 : decode cX0_ask 230 = .ok (.iconst 1, 1) := dk_4 (dk_at dksX0_ask_9 19 rfl rfl)
theorem dX0_ask_231 : decode cX0_ask 231 = .ok (.iadd, 1) := dk_96 (dk_at dksX0_ask_9 20 rfl rfl)
theorem dX0_ask_232 : decode cX0_ask 232 = .ok (.putfield 349, 3) := dk_181 1 93 (dk_at dksX0_ask_9 21 rfl rfl)
theorem dX0_ask_235 : decode cX0_ask 235 = .ok (.goto (-157), 3) := dk_167 255 99 (dk_at dksX0_ask_10 0 rfl rfl)
theorem dX0_ask_238 : decode cX0_ask 238 = .ok (.aload_n 3, 1) := dk_45 (dk_at dksX0_ask_10 3 rfl rfl)
theorem dX0_ask_239 : decode cX0_ask 239 = .ok (.invokevirtual 368, 3) := dk_182 1 112 (dk_at dksX0_ask_10 4 rfl rfl)
theorem dX0_ask_242 : decode cX0_ask 242 = .ok (.lreturn, 1) := dk_173 (dk_at dksX0_ask_10 7 rfl rfl)
abbrev cX0_image : ByteArray := prog_1_method_66_code
def yX0_image : MethodName := ⟨RX0, "image", "()I"⟩
def dkwX0_image_8 : List UInt8 := [180, 1, 116, 172]
abbrev dktX0_image_8 : List UInt8 := dkwX0_image_8 ++ []
def dkwX0_image_7 : List UInt8 := [132, 1, 1, 167, 255, 207, 42, 42, 180, 0, 101, 42, 180, 1, 116, 184, 1, 123, 4, 182, 1, 119, 42]
abbrev dktX0_image_7 : List UInt8 := dkwX0_image_7 ++ dktX0_image_8
def dkwX0_image_6 : List UInt8 := [4, 167, 0, 4, 3, 4, 182, 1, 119, 42, 42, 180, 0, 71, 180, 0, 218, 27, 46, 5, 182, 1, 119]
abbrev dktX0_image_6 : List UInt8 := dkwX0_image_6 ++ dktX0_image_7
def dkwX0_image_5 : List UInt8 := [60, 27, 42, 182, 0, 165, 162, 0, 47, 42, 42, 180, 0, 71, 180, 0, 204, 27, 184, 0, 239, 153, 0, 7]
abbrev dktX0_image_5 : List UInt8 := dkwX0_image_5 ++ dktX0_image_6
def dkwX0_image_4 : List UInt8 := [180, 0, 247, 27, 50, 28, 46, 4, 182, 1, 119, 132, 2, 1, 167, 255, 229, 132, 1, 1, 167, 255, 181, 3]
abbrev dktX0_image_4 : List UInt8 := dkwX0_image_4 ++ dktX0_image_5
def dkwX0_image_3 : List UInt8 := [182, 1, 119, 132, 2, 1, 167, 255, 229, 3, 61, 28, 42, 182, 0, 163, 162, 0, 25, 42, 42, 180, 0, 71]
abbrev dktX0_image_3 : List UInt8 := dkwX0_image_3 ++ dktX0_image_4
def dkwX0_image_2 : List UInt8 := [61, 28, 42, 182, 0, 161, 162, 0, 25, 42, 42, 180, 0, 71, 180, 0, 243, 27, 50, 28, 46, 5]
abbrev dktX0_image_2 : List UInt8 := dkwX0_image_2 ++ dktX0_image_3
def dkwX0_image_1 : List UInt8 := [180, 0, 71, 180, 0, 201, 16, 24, 112, 4, 182, 1, 119, 3, 60, 27, 42, 182, 0, 165, 163, 0, 73, 3]
abbrev dktX0_image_1 : List UInt8 := dkwX0_image_1 ++ dktX0_image_2
def dkwX0_image_0 : List UInt8 := [42, 3, 181, 1, 116, 42, 42, 180, 0, 71, 180, 0, 201, 16, 24, 108, 5, 182, 1, 119, 42, 42]
abbrev dktX0_image_0 : List UInt8 := dkwX0_image_0 ++ dktX0_image_1
theorem dksX0_image_0 : cX0_image.data.toList.drop 0 = dktX0_image_0 := by decide +kernel
theorem dksX0_image_1 : cX0_image.data.toList.drop 22 = dktX0_image_1 := dk_seg dksX0_image_0 22 rfl rfl
theorem dksX0_image_2 : cX0_image.data.toList.drop 46 = dktX0_image_2 := dk_seg dksX0_image_1 24 rfl rfl
theorem dksX0_image_3 : cX0_image.data.toList.drop 68 = dktX0_image_3 := dk_seg dksX0_image_2 22 rfl rfl
theorem dksX0_image_4 : cX0_image.data.toList.drop 92 = dktX0_image_4 := dk_seg dksX0_image_3 24 rfl rfl
theorem dksX0_image_5 : cX0_image.data.toList.drop 116 = dktX0_image_5 := dk_seg dksX0_image_4 24 rfl rfl
theorem dksX0_image_6 : cX0_image.data.toList.drop 140 = dktX0_image_6 := dk_seg dksX0_image_5 24 rfl rfl
theorem dksX0_image_7 : cX0_image.data.toList.drop 163 = dktX0_image_7 := dk_seg dksX0_image_6 23 rfl rfl
theorem dksX0_image_8 : cX0_image.data.toList.drop 186 = dktX0_image_8 := dk_seg dksX0_image_7 23 rfl rfl
theorem dX0_image_0 : decode cX0_image 0 = .ok (.aload_n 0, 1) := dk_42 (dk_at dksX0_image_0 0 rfl rfl)
theorem dX0_image_1 : decode cX0_image 1 = .ok (.iconst 0, 1) := dk_3 (dk_at dksX0_image_0 1 rfl rfl)
theorem dX0_image_2 : decode cX0_image 2 = .ok (.putfield 372, 3) := dk_181 1 116 (dk_at dksX0_image_0 2 rfl rfl)
theorem dX0_image_5 : decode cX0_image 5 = .ok (.aload_n 0, 1) := dk_42 (dk_at dksX0_image_0 5 rfl rfl)
theorem dX0_image_6 : decode cX0_image 6 = .ok (.aload_n 0, 1) := dk_42 (dk_at dksX0_image_0 6 rfl rfl)
theorem dX0_image_7 : decode cX0_image 7 = .ok (.getfield 71, 3) := dk_180 0 71 (dk_at dksX0_image_0 7 rfl rfl)
theorem dX0_image_10 : decode cX0_image 10 = .ok (.getfield 201, 3) := dk_180 0 201 (dk_at dksX0_image_0 10 rfl rfl)
theorem dX0_image_13 : decode cX0_image 13 = .ok (.bipush 24, 2) := dk_16 24 (dk_at dksX0_image_0 13 rfl rfl)
theorem dX0_image_15 : decode cX0_image 15 = .ok (.idiv, 1) := dk_108 (dk_at dksX0_image_0 15 rfl rfl)
theorem dX0_image_16 : decode cX0_image 16 = .ok (.iconst 2, 1) := dk_5 (dk_at dksX0_image_0 16 rfl rfl)
theorem dX0_image_17 : decode cX0_image 17 = .ok (.invokevirtual 375, 3) := dk_182 1 119 (dk_at dksX0_image_0 17 rfl rfl)
theorem dX0_image_20 : decode cX0_image 20 = .ok (.aload_n 0, 1) := dk_42 (dk_at dksX0_image_0 20 rfl rfl)
theorem dX0_image_21 : decode cX0_image 21 = .ok (.aload_n 0, 1) := dk_42 (dk_at dksX0_image_0 21 rfl rfl)
theorem dX0_image_22 : decode cX0_image 22 = .ok (.getfield 71, 3) := dk_180 0 71 (dk_at dksX0_image_1 0 rfl rfl)
theorem dX0_image_25 : decode cX0_image 25 = .ok (.getfield 201, 3) := dk_180 0 201 (dk_at dksX0_image_1 3 rfl rfl)
theorem dX0_image_28 : decode cX0_image 28 = .ok (.bipush 24, 2) := dk_16 24 (dk_at dksX0_image_1 6 rfl rfl)
theorem dX0_image_30 : decode cX0_image 30 = .ok (.irem, 1) := dk_112 (dk_at dksX0_image_1 8 rfl rfl)
theorem dX0_image_31 : decode cX0_image 31 = .ok (.iconst 1, 1) := dk_4 (dk_at dksX0_image_1 9 rfl rfl)
theorem dX0_image_32 : decode cX0_image 32 = .ok (.invokevirtual 375, 3) := dk_182 1 119 (dk_at dksX0_image_1 10 rfl rfl)
theorem dX0_image_35 : decode cX0_image 35 = .ok (.iconst 0, 1) := dk_3 (dk_at dksX0_image_1 13 rfl rfl)
theorem dX0_image_36 : decode cX0_image 36 = .ok (.istore_n 1, 1) := dk_60 (dk_at dksX0_image_1 14 rfl rfl)
theorem dX0_image_37 : decode cX0_image 37 = .ok (.iload_n 1, 1) := dk_27 (dk_at dksX0_image_1 15 rfl rfl)
theorem dX0_image_38 : decode cX0_image 38 = .ok (.aload_n 0, 1) := dk_42 (dk_at dksX0_image_1 16 rfl rfl)
theorem dX0_image_39 : decode cX0_image 39 = .ok (.invokevirtual 165, 3) := dk_182 0 165 (dk_at dksX0_image_1 17 rfl rfl)
theorem dX0_image_42 : decode cX0_image 42 = .ok (.if_icmp .gt 73, 3) := dk_163 0 73 (dk_at dksX0_image_1 20 rfl rfl)
theorem dX0_image_45 : decode cX0_image 45 = .ok (.iconst 0, 1) := dk_3 (dk_at dksX0_image_1 23 rfl rfl)
theorem dX0_image_46 : decode cX0_image 46 = .ok (.istore_n 2, 1) := dk_61 (dk_at dksX0_image_2 0 rfl rfl)
theorem dX0_image_47 : decode cX0_image 47 = .ok (.iload_n 2, 1) := dk_28 (dk_at dksX0_image_2 1 rfl rfl)
theorem dX0_image_48 : decode cX0_image 48 = .ok (.aload_n 0, 1) := dk_42 (dk_at dksX0_image_2 2 rfl rfl)
theorem dX0_image_49 : decode cX0_image 49 = .ok (.invokevirtual 161, 3) := dk_182 0 161 (dk_at dksX0_image_2 3 rfl rfl)
theorem dX0_image_52 : decode cX0_image 52 = .ok (.if_icmp .ge 25, 3) := dk_162 0 25 (dk_at dksX0_image_2 6 rfl rfl)
theorem dX0_image_55 : decode cX0_image 55 = .ok (.aload_n 0, 1) := dk_42 (dk_at dksX0_image_2 9 rfl rfl)
theorem dX0_image_56 : decode cX0_image 56 = .ok (.aload_n 0, 1) := dk_42 (dk_at dksX0_image_2 10 rfl rfl)
theorem dX0_image_57 : decode cX0_image 57 = .ok (.getfield 71, 3) := dk_180 0 71 (dk_at dksX0_image_2 11 rfl rfl)
theorem dX0_image_60 : decode cX0_image 60 = .ok (.getfield 243, 3) := dk_180 0 243 (dk_at dksX0_image_2 14 rfl rfl)
theorem dX0_image_63 : decode cX0_image 63 = .ok (.iload_n 1, 1) := dk_27 (dk_at dksX0_image_2 17 rfl rfl)
theorem dX0_image_64 : decode cX0_image 64 = .ok (.aaload, 1) := dk_50 (dk_at dksX0_image_2 18 rfl rfl)
theorem dX0_image_65 : decode cX0_image 65 = .ok (.iload_n 2, 1) := dk_28 (dk_at dksX0_image_2 19 rfl rfl)
theorem dX0_image_66 : decode cX0_image 66 = .ok (.iaload, 1) := dk_46 (dk_at dksX0_image_2 20 rfl rfl)
theorem dX0_image_67 : decode cX0_image 67 = .ok (.iconst 2, 1) := dk_5 (dk_at dksX0_image_2 21 rfl rfl)
theorem dX0_image_68 : decode cX0_image 68 = .ok (.invokevirtual 375, 3) := dk_182 1 119 (dk_at dksX0_image_3 0 rfl rfl)
theorem dX0_image_71 : decode cX0_image 71 = .ok (.iinc 2 1, 3) := dk_132 2 1 (dk_at dksX0_image_3 3 rfl rfl)
theorem dX0_image_74 : decode cX0_image 74 = .ok (.goto (-27), 3) := dk_167 255 229 (dk_at dksX0_image_3 6 rfl rfl)
theorem dX0_image_77 : decode cX0_image 77 = .ok (.iconst 0, 1) := dk_3 (dk_at dksX0_image_3 9 rfl rfl)
theorem dX0_image_78 : decode cX0_image 78 = .ok (.istore_n 2, 1) := dk_61 (dk_at dksX0_image_3 10 rfl rfl)
theorem dX0_image_79 : decode cX0_image 79 = .ok (.iload_n 2, 1) := dk_28 (dk_at dksX0_image_3 11 rfl rfl)
theorem dX0_image_80 : decode cX0_image 80 = .ok (.aload_n 0, 1) := dk_42 (dk_at dksX0_image_3 12 rfl rfl)
theorem dX0_image_81 : decode cX0_image 81 = .ok (.invokevirtual 163, 3) := dk_182 0 163 (dk_at dksX0_image_3 13 rfl rfl)
theorem dX0_image_84 : decode cX0_image 84 = .ok (.if_icmp .ge 25, 3) := dk_162 0 25 (dk_at dksX0_image_3 16 rfl rfl)
theorem dX0_image_87 : decode cX0_image 87 = .ok (.aload_n 0, 1) := dk_42 (dk_at dksX0_image_3 19 rfl rfl)
theorem dX0_image_88 : decode cX0_image 88 = .ok (.aload_n 0, 1) := dk_42 (dk_at dksX0_image_3 20 rfl rfl)
theorem dX0_image_89 : decode cX0_image 89 = .ok (.getfield 71, 3) := dk_180 0 71 (dk_at dksX0_image_3 21 rfl rfl)
theorem dX0_image_92 : decode cX0_image 92 = .ok (.getfield 247, 3) := dk_180 0 247 (dk_at dksX0_image_4 0 rfl rfl)
theorem dX0_image_95 : decode cX0_image 95 = .ok (.iload_n 1, 1) := dk_27 (dk_at dksX0_image_4 3 rfl rfl)
theorem dX0_image_96 : decode cX0_image 96 = .ok (.aaload, 1) := dk_50 (dk_at dksX0_image_4 4 rfl rfl)
theorem dX0_image_97 : decode cX0_image 97 = .ok (.iload_n 2, 1) := dk_28 (dk_at dksX0_image_4 5 rfl rfl)
theorem dX0_image_98 : decode cX0_image 98 = .ok (.iaload, 1) := dk_46 (dk_at dksX0_image_4 6 rfl rfl)
theorem dX0_image_99 : decode cX0_image 99 = .ok (.iconst 1, 1) := dk_4 (dk_at dksX0_image_4 7 rfl rfl)
theorem dX0_image_100 : decode cX0_image 100 = .ok (.invokevirtual 375, 3) := dk_182 1 119 (dk_at dksX0_image_4 8 rfl rfl)
theorem dX0_image_103 : decode cX0_image 103 = .ok (.iinc 2 1, 3) := dk_132 2 1 (dk_at dksX0_image_4 11 rfl rfl)
theorem dX0_image_106 : decode cX0_image 106 = .ok (.goto (-27), 3) := dk_167 255 229 (dk_at dksX0_image_4 14 rfl rfl)
theorem dX0_image_109 : decode cX0_image 109 = .ok (.iinc 1 1, 3) := dk_132 1 1 (dk_at dksX0_image_4 17 rfl rfl)
theorem dX0_image_112 : decode cX0_image 112 = .ok (.goto (-75), 3) := dk_167 255 181 (dk_at dksX0_image_4 20 rfl rfl)
theorem dX0_image_115 : decode cX0_image 115 = .ok (.iconst 0, 1) := dk_3 (dk_at dksX0_image_4 23 rfl rfl)
theorem dX0_image_116 : decode cX0_image 116 = .ok (.istore_n 1, 1) := dk_60 (dk_at dksX0_image_5 0 rfl rfl)
theorem dX0_image_117 : decode cX0_image 117 = .ok (.iload_n 1, 1) := dk_27 (dk_at dksX0_image_5 1 rfl rfl)
theorem dX0_image_118 : decode cX0_image 118 = .ok (.aload_n 0, 1) := dk_42 (dk_at dksX0_image_5 2 rfl rfl)
theorem dX0_image_119 : decode cX0_image 119 = .ok (.invokevirtual 165, 3) := dk_182 0 165 (dk_at dksX0_image_5 3 rfl rfl)
theorem dX0_image_122 : decode cX0_image 122 = .ok (.if_icmp .ge 47, 3) := dk_162 0 47 (dk_at dksX0_image_5 6 rfl rfl)
theorem dX0_image_125 : decode cX0_image 125 = .ok (.aload_n 0, 1) := dk_42 (dk_at dksX0_image_5 9 rfl rfl)
theorem dX0_image_126 : decode cX0_image 126 = .ok (.aload_n 0, 1) := dk_42 (dk_at dksX0_image_5 10 rfl rfl)
theorem dX0_image_127 : decode cX0_image 127 = .ok (.getfield 71, 3) := dk_180 0 71 (dk_at dksX0_image_5 11 rfl rfl)
theorem dX0_image_130 : decode cX0_image 130 = .ok (.getfield 204, 3) := dk_180 0 204 (dk_at dksX0_image_5 14 rfl rfl)
theorem dX0_image_133 : decode cX0_image 133 = .ok (.iload_n 1, 1) := dk_27 (dk_at dksX0_image_5 17 rfl rfl)
theorem dX0_image_134 : decode cX0_image 134 = .ok (.invokestatic 239, 3) := dk_184 0 239 (dk_at dksX0_image_5 18 rfl rfl)
theorem dX0_image_137 : decode cX0_image 137 = .ok (.ifCond .eq 7, 3) := dk_153 0 7 (dk_at dksX0_image_5 21 rfl rfl)
theorem dX0_image_140 : decode cX0_image 140 = .ok (.iconst 1, 1) := dk_4 (dk_at dksX0_image_6 0 rfl rfl)
theorem dX0_image_141 : decode cX0_image 141 = .ok (.goto 4, 3) := dk_167 0 4 (dk_at dksX0_image_6 1 rfl rfl)
theorem dX0_image_144 : decode cX0_image 144 = .ok (.iconst 0, 1) := dk_3 (dk_at dksX0_image_6 4 rfl rfl)
theorem dX0_image_145 : decode cX0_image 145 = .ok (.iconst 1, 1) := dk_4 (dk_at dksX0_image_6 5 rfl rfl)
theorem dX0_image_146 : decode cX0_image 146 = .ok (.invokevirtual 375, 3) := dk_182 1 119 (dk_at dksX0_image_6 6 rfl rfl)
theorem dX0_image_149 : decode cX0_image 149 = .ok (.aload_n 0, 1) := dk_42 (dk_at dksX0_image_6 9 rfl rfl)
theorem dX0_image_150 : decode cX0_image 150 = .ok (.aload_n 0, 1) := dk_42 (dk_at dksX0_image_6 10 rfl rfl)
theorem dX0_image_151 : decode cX0_image 151 = .ok (.getfield 71, 3) := dk_180 0 71 (dk_at dksX0_image_6 11 rfl rfl)
theorem dX0_image_154 : decode cX0_image 154 = .ok (.getfield 218, 3) := dk_180 0 218 (dk_at dksX0_image_6 14 rfl rfl)
theorem dX0_image_157 : decode cX0_image 157 = .ok (.iload_n 1, 1) := dk_27 (dk_at dksX0_image_6 17 rfl rfl)
theorem dX0_image_158 : decode cX0_image 158 = .ok (.iaload, 1) := dk_46 (dk_at dksX0_image_6 18 rfl rfl)
theorem dX0_image_159 : decode cX0_image 159 = .ok (.iconst 2, 1) := dk_5 (dk_at dksX0_image_6 19 rfl rfl)
theorem dX0_image_160 : decode cX0_image 160 = .ok (.invokevirtual 375, 3) := dk_182 1 119 (dk_at dksX0_image_6 20 rfl rfl)
theorem dX0_image_163 : decode cX0_image 163 = .ok (.iinc 1 1, 3) := dk_132 1 1 (dk_at dksX0_image_7 0 rfl rfl)
theorem dX0_image_166 : decode cX0_image 166 = .ok (.goto (-49), 3) := dk_167 255 207 (dk_at dksX0_image_7 3 rfl rfl)
theorem dX0_image_169 : decode cX0_image 169 = .ok (.aload_n 0, 1) := dk_42 (dk_at dksX0_image_7 6 rfl rfl)
theorem dX0_image_170 : decode cX0_image 170 = .ok (.aload_n 0, 1) := dk_42 (dk_at dksX0_image_7 7 rfl rfl)
theorem dX0_image_171 : decode cX0_image 171 = .ok (.getfield 101, 3) := dk_180 0 101 (dk_at dksX0_image_7 8 rfl rfl)
theorem dX0_image_174 : decode cX0_image 174 = .ok (.aload_n 0, 1) := dk_42 (dk_at dksX0_image_7 11 rfl rfl)
theorem dX0_image_175 : decode cX0_image 175 = .ok (.getfield 372, 3) := dk_180 1 116 (dk_at dksX0_image_7 12 rfl rfl)
theorem dX0_image_178 : decode cX0_image 178 = .ok (.invokestatic 379, 3) := dk_184 1 123 (dk_at dksX0_image_7 15 rfl rfl)
theorem dX0_image_181 : decode cX0_image 181 = .ok (.iconst 1, 1) := dk_4 (dk_at dksX0_image_7 18 rfl rfl)
theorem dX0_image_182 : decode cX0_image 182 = .ok (.invokevirtual 375, 3) := dk_182 1 119 (dk_at dksX0_image_7 19 rfl rfl)
theorem dX0_image_185 : decode cX0_image 185 = .ok (.aload_n 0, 1) := dk_42 (dk_at dksX0_image_7 22 rfl rfl)
theorem dX0_image_186 : decode cX0_image 186 = .ok (.getfield 372, 3) := dk_180 1 116 (dk_at dksX0_image_8 0 rfl rfl)
theorem dX0_image_189 : decode cX0_image 189 = .ok (.ireturn, 1) := dk_172 (dk_at dksX0_image_8 3 rfl rfl)
abbrev cX0_writes : ByteArray := prog_1_method_64_code
def yX0_writes : MethodName := ⟨RX0, "writes", "(II)V"⟩
def dkwX0_writes_1 : List UInt8 := [181, 1, 116, 27, 29, 122, 145, 84, 132, 3, 248, 167, 255, 229, 177]
abbrev dktX0_writes_1 : List UInt8 := dkwX0_writes_1 ++ []
def dkwX0_writes_0 : List UInt8 := [16, 8, 28, 104, 16, 8, 100, 62, 29, 155, 0, 29, 42, 180, 0, 101, 42, 89, 180, 1, 116, 90, 4, 96]
abbrev dktX0_writes_0 : List UInt8 := dkwX0_writes_0 ++ dktX0_writes_1
theorem dksX0_writes_0 : cX0_writes.data.toList.drop 0 = dktX0_writes_0 := by decide +kernel
theorem dksX0_writes_1 : cX0_writes.data.toList.drop 24 = dktX0_writes_1 := dk_seg dksX0_writes_0 24 rfl rfl
theorem dX0_writes_0 : decode cX0_writes 0 = .ok (.bipush 8, 2) := dk_16 8 (dk_at dksX0_writes_0 0 rfl rfl)
theorem dX0_writes_2 : decode cX0_writes 2 = .ok (.iload_n 2, 1) := dk_28 (dk_at dksX0_writes_0 2 rfl rfl)
theorem dX0_writes_3 : decode cX0_writes 3 = .ok (.imul, 1) := dk_104 (dk_at dksX0_writes_0 3 rfl rfl)
theorem dX0_writes_4 : decode cX0_writes 4 = .ok (.bipush 8, 2) := dk_16 8 (dk_at dksX0_writes_0 4 rfl rfl)
theorem dX0_writes_6 : decode cX0_writes 6 = .ok (.isub, 1) := dk_100 (dk_at dksX0_writes_0 6 rfl rfl)
theorem dX0_writes_7 : decode cX0_writes 7 = .ok (.istore_n 3, 1) := dk_62 (dk_at dksX0_writes_0 7 rfl rfl)
theorem dX0_writes_8 : decode cX0_writes 8 = .ok (.iload_n 3, 1) := dk_29 (dk_at dksX0_writes_0 8 rfl rfl)
theorem dX0_writes_9 : decode cX0_writes 9 = .ok (.ifCond .lt 29, 3) := dk_155 0 29 (dk_at dksX0_writes_0 9 rfl rfl)
theorem dX0_writes_12 : decode cX0_writes 12 = .ok (.aload_n 0, 1) := dk_42 (dk_at dksX0_writes_0 12 rfl rfl)
theorem dX0_writes_13 : decode cX0_writes 13 = .ok (.getfield 101, 3) := dk_180 0 101 (dk_at dksX0_writes_0 13 rfl rfl)
theorem dX0_writes_16 : decode cX0_writes 16 = .ok (.aload_n 0, 1) := dk_42 (dk_at dksX0_writes_0 16 rfl rfl)
theorem dX0_writes_17 : decode cX0_writes 17 = .ok (.dup, 1) := dk_89 (dk_at dksX0_writes_0 17 rfl rfl)
theorem dX0_writes_18 : decode cX0_writes 18 = .ok (.getfield 372, 3) := dk_180 1 116 (dk_at dksX0_writes_0 18 rfl rfl)
theorem dX0_writes_21 : decode cX0_writes 21 = .ok (.dup_x1, 1) := dk_90 (dk_at dksX0_writes_0 21 rfl rfl)
theorem dX0_writes_22 : decode cX0_writes 22 = .ok (.iconst 1, 1) := dk_4 (dk_at dksX0_writes_0 22 rfl rfl)
theorem dX0_writes_23 : decode cX0_writes 23 = .ok (.iadd, 1) := dk_96 (dk_at dksX0_writes_0 23 rfl rfl)
theorem dX0_writes_24 : decode cX0_writes 24 = .ok (.putfield 372, 3) := dk_181 1 116 (dk_at dksX0_writes_1 0 rfl rfl)
theorem dX0_writes_27 : decode cX0_writes 27 = .ok (.iload_n 1, 1) := dk_27 (dk_at dksX0_writes_1 3 rfl rfl)
theorem dX0_writes_28 : decode cX0_writes 28 = .ok (.iload_n 3, 1) := dk_29 (dk_at dksX0_writes_1 4 rfl rfl)
theorem dX0_writes_29 : decode cX0_writes 29 = .ok (.ishr, 1) := dk_122 (dk_at dksX0_writes_1 5 rfl rfl)
theorem dX0_writes_30 : decode cX0_writes 30 = .ok (.i2b, 1) := dk_145 (dk_at dksX0_writes_1 6 rfl rfl)
theorem dX0_writes_31 : decode cX0_writes 31 = .ok (.bastore, 1) := dk_84 (dk_at dksX0_writes_1 7 rfl rfl)
theorem dX0_writes_32 : decode cX0_writes 32 = .ok (.iinc 3 (-8), 3) := dk_132 3 248 (dk_at dksX0_writes_1 8 rfl rfl)
theorem dX0_writes_35 : decode cX0_writes 35 = .ok (.goto (-27), 3) := dk_167 255 229 (dk_at dksX0_writes_1 11 rfl rfl)
theorem dX0_writes_38 : decode cX0_writes 38 = .ok (.return_, 1) := dk_177 (dk_at dksX0_writes_1 14 rfl rfl)
abbrev cX0_check : ByteArray := prog_1_method_65_code
def yX0_check : MethodName := ⟨RX0, "check", "([BI)I"⟩
def dkwX0_check_1 : List UInt8 := [112, 61, 132, 3, 1, 167, 255, 232, 28, 172]
abbrev dktX0_check_1 : List UInt8 := dkwX0_check_1 ++ []
def dkwX0_check_0 : List UInt8 := [16, 53, 61, 3, 62, 29, 27, 162, 0, 25, 6, 28, 104, 42, 29, 51, 17, 0, 255, 126, 96, 17, 0, 251]
abbrev dktX0_check_0 : List UInt8 := dkwX0_check_0 ++ dktX0_check_1
theorem dksX0_check_0 : cX0_check.data.toList.drop 0 = dktX0_check_0 := by decide +kernel
theorem dksX0_check_1 : cX0_check.data.toList.drop 24 = dktX0_check_1 := dk_seg dksX0_check_0 24 rfl rfl
theorem dX0_check_0 : decode cX0_check 0 = .ok (.bipush 53, 2) := dk_16 53 (dk_at dksX0_check_0 0 rfl rfl)
theorem dX0_check_2 : decode cX0_check 2 = .ok (.istore_n 2, 1) := dk_61 (dk_at dksX0_check_0 2 rfl rfl)
theorem dX0_check_3 : decode cX0_check 3 = .ok (.iconst 0, 1) := dk_3 (dk_at dksX0_check_0 3 rfl rfl)
theorem dX0_check_4 : decode cX0_check 4 = .ok (.istore_n 3, 1) := dk_62 (dk_at dksX0_check_0 4 rfl rfl)
theorem dX0_check_5 : decode cX0_check 5 = .ok (.iload_n 3, 1) := dk_29 (dk_at dksX0_check_0 5 rfl rfl)
theorem dX0_check_6 : decode cX0_check 6 = .ok (.iload_n 1, 1) := dk_27 (dk_at dksX0_check_0 6 rfl rfl)
theorem dX0_check_7 : decode cX0_check 7 = .ok (.if_icmp .ge 25, 3) := dk_162 0 25 (dk_at dksX0_check_0 7 rfl rfl)
theorem dX0_check_10 : decode cX0_check 10 = .ok (.iconst 3, 1) := dk_6 (dk_at dksX0_check_0 10 rfl rfl)
theorem dX0_check_11 : decode cX0_check 11 = .ok (.iload_n 2, 1) := dk_28 (dk_at dksX0_check_0 11 rfl rfl)
theorem dX0_check_12 : decode cX0_check 12 = .ok (.imul, 1) := dk_104 (dk_at dksX0_check_0 12 rfl rfl)
theorem dX0_check_13 : decode cX0_check 13 = .ok (.aload_n 0, 1) := dk_42 (dk_at dksX0_check_0 13 rfl rfl)
theorem dX0_check_14 : decode cX0_check 14 = .ok (.iload_n 3, 1) := dk_29 (dk_at dksX0_check_0 14 rfl rfl)
theorem dX0_check_15 : decode cX0_check 15 = .ok (.baload, 1) := dk_51 (dk_at dksX0_check_0 15 rfl rfl)
theorem dX0_check_16 : decode cX0_check 16 = .ok (.sipush 255, 3) := dk_17 0 255 (dk_at dksX0_check_0 16 rfl rfl)
theorem dX0_check_19 : decode cX0_check 19 = .ok (.iand, 1) := dk_126 (dk_at dksX0_check_0 19 rfl rfl)
theorem dX0_check_20 : decode cX0_check 20 = .ok (.iadd, 1) := dk_96 (dk_at dksX0_check_0 20 rfl rfl)
theorem dX0_check_21 : decode cX0_check 21 = .ok (.sipush 251, 3) := dk_17 0 251 (dk_at dksX0_check_0 21 rfl rfl)
theorem dX0_check_24 : decode cX0_check 24 = .ok (.irem, 1) := dk_112 (dk_at dksX0_check_1 0 rfl rfl)
theorem dX0_check_25 : decode cX0_check 25 = .ok (.istore_n 2, 1) := dk_61 (dk_at dksX0_check_1 1 rfl rfl)
theorem dX0_check_26 : decode cX0_check 26 = .ok (.iinc 3 1, 3) := dk_132 3 1 (dk_at dksX0_check_1 2 rfl rfl)
theorem dX0_check_29 : decode cX0_check 29 = .ok (.goto (-24), 3) := dk_167 255 232 (dk_at dksX0_check_1 5 rfl rfl)
theorem dX0_check_32 : decode cX0_check 32 = .ok (.iload_n 2, 1) := dk_28 (dk_at dksX0_check_1 8 rfl rfl)
theorem dX0_check_33 : decode cX0_check 33 = .ok (.ireturn, 1) := dk_172 (dk_at dksX0_check_1 9 rfl rfl)
abbrev cX0_octet : ByteArray := prog_1_method_67_code
def yX0_octet : MethodName := ⟨RX0, "octet", "(I)I"⟩
def dkwX0_octet_1 : List UInt8 := [17, 0, 255, 126, 172]
abbrev dktX0_octet_1 : List UInt8 := dkwX0_octet_1 ++ []
def dkwX0_octet_0 : List UInt8 := [27, 155, 0, 11, 27, 42, 180, 1, 116, 161, 0, 7, 2, 167, 0, 13, 42, 180, 0, 101, 27, 51]
abbrev dktX0_octet_0 : List UInt8 := dkwX0_octet_0 ++ dktX0_octet_1
theorem dksX0_octet_0 : cX0_octet.data.toList.drop 0 = dktX0_octet_0 := by decide +kernel
theorem dksX0_octet_1 : cX0_octet.data.toList.drop 22 = dktX0_octet_1 := dk_seg dksX0_octet_0 22 rfl rfl
theorem dX0_octet_0 : decode cX0_octet 0 = .ok (.iload_n 1, 1) := dk_27 (dk_at dksX0_octet_0 0 rfl rfl)
theorem dX0_octet_1 : decode cX0_octet 1 = .ok (.ifCond .lt 11, 3) := dk_155 0 11 (dk_at dksX0_octet_0 1 rfl rfl)
theorem dX0_octet_4 : decode cX0_octet 4 = .ok (.iload_n 1, 1) := dk_27 (dk_at dksX0_octet_0 4 rfl rfl)
theorem dX0_octet_5 : decode cX0_octet 5 = .ok (.aload_n 0, 1) := dk_42 (dk_at dksX0_octet_0 5 rfl rfl)
theorem dX0_octet_6 : decode cX0_octet 6 = .ok (.getfield 372, 3) := dk_180 1 116 (dk_at dksX0_octet_0 6 rfl rfl)
theorem dX0_octet_9 : decode cX0_octet 9 = .ok (.if_icmp .lt 7, 3) := dk_161 0 7 (dk_at dksX0_octet_0 9 rfl rfl)
theorem dX0_octet_12 : decode cX0_octet 12 = .ok (.iconst (-1), 1) := dk_2 (dk_at dksX0_octet_0 12 rfl rfl)
theorem dX0_octet_13 : decode cX0_octet 13 = .ok (.goto 13, 3) := dk_167 0 13 (dk_at dksX0_octet_0 13 rfl rfl)
theorem dX0_octet_16 : decode cX0_octet 16 = .ok (.aload_n 0, 1) := dk_42 (dk_at dksX0_octet_0 16 rfl rfl)
theorem dX0_octet_17 : decode cX0_octet 17 = .ok (.getfield 101, 3) := dk_180 0 101 (dk_at dksX0_octet_0 17 rfl rfl)
theorem dX0_octet_20 : decode cX0_octet 20 = .ok (.iload_n 1, 1) := dk_27 (dk_at dksX0_octet_0 20 rfl rfl)
theorem dX0_octet_21 : decode cX0_octet 21 = .ok (.baload, 1) := dk_51 (dk_at dksX0_octet_0 21 rfl rfl)
theorem dX0_octet_22 : decode cX0_octet 22 = .ok (.sipush 255, 3) := dk_17 0 255 (dk_at dksX0_octet_1 0 rfl rfl)
theorem dX0_octet_25 : decode cX0_octet 25 = .ok (.iand, 1) := dk_126 (dk_at dksX0_octet_1 3 rfl rfl)
theorem dX0_octet_26 : decode cX0_octet 26 = .ok (.ireturn, 1) := dk_172 (dk_at dksX0_octet_1 4 rfl rfl)
abbrev cX0_on : ByteArray := prog_1_method_71_code
def yX0_on : MethodName := ⟨RX0, "on", "()Z"⟩
def dkwX0_on_10 : List UInt8 := [180, 0, 75, 182, 1, 6, 87, 42, 3, 181, 0, 137, 4, 172]
abbrev dktX0_on_10 : List UInt8 := dkwX0_on_10 ++ []
def dkwX0_on_9 : List UInt8 := [42, 5, 182, 1, 60, 96, 181, 0, 201, 42, 180, 0, 75, 3, 181, 0, 215, 42, 180, 0, 71, 42]
abbrev dktX0_on_9 : List UInt8 := dkwX0_on_9 ++ dktX0_on_10
def dkwX0_on_8 : List UInt8 := [182, 0, 107, 155, 0, 7, 4, 167, 0, 4, 3, 172, 42, 180, 0, 75, 16, 24, 42, 3, 182, 1, 127, 104]
abbrev dktX0_on_8 : List UInt8 := dkwX0_on_8 ++ dktX0_on_9
def dkwX0_on_7 : List UInt8 := [6, 21, 5, 104, 96, 182, 1, 133, 54, 4, 132, 5, 1, 167, 255, 225, 21, 4, 154, 0, 17, 42, 8]
abbrev dktX0_on_7 : List UInt8 := dkwX0_on_7 ++ dktX0_on_8
def dkwX0_on_6 : List UInt8 := [167, 255, 225, 3, 54, 5, 21, 5, 42, 182, 0, 165, 162, 0, 28, 21, 4, 153, 0, 23, 42, 21, 5, 29]
abbrev dktX0_on_6 : List UInt8 := dkwX0_on_6 ++ dktX0_on_7
def dkwX0_on_5 : List UInt8 := [21, 4, 153, 0, 23, 42, 21, 5, 6, 28, 21, 5, 104, 96, 182, 1, 130, 54, 4, 132, 5, 1]
abbrev dktX0_on_5 : List UInt8 := dkwX0_on_5 ++ dktX0_on_6
def dkwX0_on_4 : List UInt8 := [42, 180, 0, 71, 182, 1, 6, 3, 181, 0, 204, 3, 54, 5, 21, 5, 42, 182, 0, 165, 163, 0, 28]
abbrev dktX0_on_4 : List UInt8 := dkwX0_on_4 ++ dktX0_on_5
def dkwX0_on_3 : List UInt8 := [163, 0, 17, 42, 5, 182, 1, 60, 16, 24, 162, 0, 7, 4, 167, 0, 4, 3, 54, 4, 42, 180, 0, 75]
abbrev dktX0_on_3 : List UInt8 := dkwX0_on_3 ++ dktX0_on_4
def dkwX0_on_2 : List UInt8 := [182, 1, 60, 42, 180, 0, 37, 27, 4, 100, 184, 1, 123, 160, 0, 28, 42, 3, 182, 1, 127, 17, 3, 231]
abbrev dktX0_on_2 : List UInt8 := dkwX0_on_2 ++ dktX0_on_3
def dkwX0_on_1 : List UInt8 := [96, 104, 96, 62, 27, 29, 6, 42, 182, 0, 165, 104, 96, 4, 96, 160, 0, 48, 42, 27, 4, 100]
abbrev dktX0_on_1 : List UInt8 := dkwX0_on_1 ++ dktX0_on_2
def dkwX0_on_0 : List UInt8 := [42, 182, 0, 118, 60, 5, 42, 182, 0, 161, 104, 42, 182, 0, 163, 96, 61, 6, 28, 42, 182, 0, 165, 4]
abbrev dktX0_on_0 : List UInt8 := dkwX0_on_0 ++ dktX0_on_1
theorem dksX0_on_0 : cX0_on.data.toList.drop 0 = dktX0_on_0 := by decide +kernel
theorem dksX0_on_1 : cX0_on.data.toList.drop 24 = dktX0_on_1 := dk_seg dksX0_on_0 24 rfl rfl
theorem dksX0_on_2 : cX0_on.data.toList.drop 46 = dktX0_on_2 := dk_seg dksX0_on_1 22 rfl rfl
theorem dksX0_on_3 : cX0_on.data.toList.drop 70 = dktX0_on_3 := dk_seg dksX0_on_2 24 rfl rfl
theorem dksX0_on_4 : cX0_on.data.toList.drop 94 = dktX0_on_4 := dk_seg dksX0_on_3 24 rfl rfl
theorem dksX0_on_5 : cX0_on.data.toList.drop 117 = dktX0_on_5 := dk_seg dksX0_on_4 23 rfl rfl
theorem dksX0_on_6 : cX0_on.data.toList.drop 139 = dktX0_on_6 := dk_seg dksX0_on_5 22 rfl rfl
theorem dksX0_on_7 : cX0_on.data.toList.drop 163 = dktX0_on_7 := dk_seg dksX0_on_6 24 rfl rfl
theorem dksX0_on_8 : cX0_on.data.toList.drop 186 = dktX0_on_8 := dk_seg dksX0_on_7 23 rfl rfl
theorem dksX0_on_9 : cX0_on.data.toList.drop 210 = dktX0_on_9 := dk_seg dksX0_on_8 24 rfl rfl
theorem dksX0_on_10 : cX0_on.data.toList.drop 232 = dktX0_on_10 := dk_seg dksX0_on_9 22 rfl rfl
theorem dX0_on_0 : decode cX0_on 0 = .ok (.aload_n 0, 1) := dk_42 (dk_at dksX0_on_0 0 rfl rfl)
theorem dX0_on_1 : decode cX0_on 1 = .ok (.invokevirtual 118, 3) := dk_182 0 118 (dk_at dksX0_on_0 1 rfl rfl)
theorem dX0_on_4 : decode cX0_on 4 = .ok (.istore_n 1, 1) := dk_60 (dk_at dksX0_on_0 4 rfl rfl)
theorem dX0_on_5 : decode cX0_on 5 = .ok (.iconst 2, 1) := dk_5 (dk_at dksX0_on_0 5 rfl rfl)
theorem dX0_on_6 : decode cX0_on 6 = .ok (.aload_n 0, 1) := dk_42 (dk_at dksX0_on_0 6 rfl rfl)
theorem dX0_on_7 : decode cX0_on 7 = .ok (.invokevirtual 161, 3) := dk_182 0 161 (dk_at dksX0_on_0 7 rfl rfl)
theorem dX0_on_10 : decode cX0_on 10 = .ok (.imul, 1) := dk_104 (dk_at dksX0_on_0 10 rfl rfl)
theorem dX0_on_11 : decode cX0_on 11 = .ok (.aload_n 0, 1) := dk_42 (dk_at dksX0_on_0 11 rfl rfl)
theorem dX0_on_12 : decode cX0_on 12 = .ok (.invokevirtual 163, 3) := dk_182 0 163 (dk_at dksX0_on_0 12 rfl rfl)
theorem dX0_on_15 : decode cX0_on 15 = .ok (.iadd, 1) := dk_96 (dk_at dksX0_on_0 15 rfl rfl)
theorem dX0_on_16 : decode cX0_on 16 = .ok (.istore_n 2, 1) := dk_61 (dk_at dksX0_on_0 16 rfl rfl)
theorem dX0_on_17 : decode cX0_on 17 = .ok (.iconst 3, 1) := dk_6 (dk_at dksX0_on_0 17 rfl rfl)
theorem dX0_on_18 : decode cX0_on 18 = .ok (.iload_n 2, 1) := dk_28 (dk_at dksX0_on_0 18 rfl rfl)
theorem dX0_on_19 : decode cX0_on 19 = .ok (.aload_n 0, 1) := dk_42 (dk_at dksX0_on_0 19 rfl rfl)
theorem dX0_on_20 : decode cX0_on 20 = .ok (.invokevirtual 165, 3) := dk_182 0 165 (dk_at dksX0_on_0 20 rfl rfl)
theorem dX0_on_23 : decode cX0_on 23 = .ok (.iconst 1, 1) := dk_4 (dk_at dksX0_on_0 23 rfl rfl)
theorem dX0_on_24 : decode cX0_on 24 = .ok (.iadd, 1) := dk_96 (dk_at dksX0_on_1 0 rfl rfl)
theorem dX0_on_25 : decode cX0_on 25 = .ok (.imul, 1) := dk_104 (dk_at dksX0_on_1 1 rfl rfl)
theorem dX0_on_26 : decode cX0_on 26 = .ok (.iadd, 1) := dk_96 (dk_at dksX0_on_1 2 rfl rfl)
theorem dX0_on_27 : decode cX0_on 27 = .ok (.istore_n 3, 1) := dk_62 (dk_at dksX0_on_1 3 rfl rfl)
theorem dX0_on_28 : decode cX0_on 28 = .ok (.iload_n 1, 1) := dk_27 (dk_at dksX0_on_1 4 rfl rfl)
theorem dX0_on_29 : decode cX0_on 29 = .ok (.iload_n 3, 1) := dk_29 (dk_at dksX0_on_1 5 rfl rfl)
theorem dX0_on_30 : decode cX0_on 30 = .ok (.iconst 3, 1) := dk_6 (dk_at dksX0_on_1 6 rfl rfl)
theorem dX0_on_31 : decode cX0_on 31 = .ok (.aload_n 0, 1) := dk_42 (dk_at dksX0_on_1 7 rfl rfl)
theorem dX0_on_32 : decode cX0_on 32 = .ok (.invokevirtual 165, 3) := dk_182 0 165 (dk_at dksX0_on_1 8 rfl rfl)
theorem dX0_on_35 : decode cX0_on 35 = .ok (.imul, 1) := dk_104 (dk_at dksX0_on_1 11 rfl rfl)
theorem dX0_on_36 : decode cX0_on 36 = .ok (.iadd, 1) := dk_96 (dk_at dksX0_on_1 12 rfl rfl)
theorem dX0_on_37 : decode cX0_on 37 = .ok (.iconst 1, 1) := dk_4 (dk_at dksX0_on_1 13 rfl rfl)
theorem dX0_on_38 : decode cX0_on 38 = .ok (.iadd, 1) := dk_96 (dk_at dksX0_on_1 14 rfl rfl)
theorem dX0_on_39 : decode cX0_on 39 = .ok (.if_icmp .ne 48, 3) := dk_160 0 48 (dk_at dksX0_on_1 15 rfl rfl)
theorem dX0_on_42 : decode cX0_on 42 = .ok (.aload_n 0, 1) := dk_42 (dk_at dksX0_on_1 18 rfl rfl)
theorem dX0_on_43 : decode cX0_on 43 = .ok (.iload_n 1, 1) := dk_27 (dk_at dksX0_on_1 19 rfl rfl)
theorem dX0_on_44 : decode cX0_on 44 = .ok (.iconst 1, 1) := dk_4 (dk_at dksX0_on_1 20 rfl rfl)
theorem dX0_on_45 : decode cX0_on 45 = .ok (.isub, 1) := dk_100 (dk_at dksX0_on_1 21 rfl rfl)
theorem dX0_on_46 : decode cX0_on 46 = .ok (.invokevirtual 316, 3) := dk_182 1 60 (dk_at dksX0_on_2 0 rfl rfl)
theorem dX0_on_49 : decode cX0_on 49 = .ok (.aload_n 0, 1) := dk_42 (dk_at dksX0_on_2 3 rfl rfl)
theorem dX0_on_50 : decode cX0_on 50 = .ok (.getfield 37, 3) := dk_180 0 37 (dk_at dksX0_on_2 4 rfl rfl)
theorem dX0_on_53 : decode cX0_on 53 = .ok (.iload_n 1, 1) := dk_27 (dk_at dksX0_on_2 7 rfl rfl)
theorem dX0_on_54 : decode cX0_on 54 = .ok (.iconst 1, 1) := dk_4 (dk_at dksX0_on_2 8 rfl rfl)
theorem dX0_on_55 : decode cX0_on 55 = .ok (.isub, 1) := dk_100 (dk_at dksX0_on_2 9 rfl rfl)
theorem dX0_on_56 : decode cX0_on 56 = .ok (.invokestatic 379, 3) := dk_184 1 123 (dk_at dksX0_on_2 10 rfl rfl)
theorem dX0_on_59 : decode cX0_on 59 = .ok (.if_icmp .ne 28, 3) := dk_160 0 28 (dk_at dksX0_on_2 13 rfl rfl)
theorem dX0_on_62 : decode cX0_on 62 = .ok (.aload_n 0, 1) := dk_42 (dk_at dksX0_on_2 16 rfl rfl)
theorem dX0_on_63 : decode cX0_on 63 = .ok (.iconst 0, 1) := dk_3 (dk_at dksX0_on_2 17 rfl rfl)
theorem dX0_on_64 : decode cX0_on 64 = .ok (.invokevirtual 383, 3) := dk_182 1 127 (dk_at dksX0_on_2 18 rfl rfl)
theorem dX0_on_67 : decode cX0_on 67 = .ok (.sipush 999, 3) := dk_17 3 231 (dk_at dksX0_on_2 21 rfl rfl)
theorem dX0_on_70 : decode cX0_on 70 = .ok (.if_icmp .gt 17, 3) := dk_163 0 17 (dk_at dksX0_on_3 0 rfl rfl)
theorem dX0_on_73 : decode cX0_on 73 = .ok (.aload_n 0, 1) := dk_42 (dk_at dksX0_on_3 3 rfl rfl)
theorem dX0_on_74 : decode cX0_on 74 = .ok (.iconst 2, 1) := dk_5 (dk_at dksX0_on_3 4 rfl rfl)
theorem dX0_on_75 : decode cX0_on 75 = .ok (.invokevirtual 316, 3) := dk_182 1 60 (dk_at dksX0_on_3 5 rfl rfl)
theorem dX0_on_78 : decode cX0_on 78 = .ok (.bipush 24, 2) := dk_16 24 (dk_at dksX0_on_3 8 rfl rfl)
theorem dX0_on_80 : decode cX0_on 80 = .ok (.if_icmp .ge 7, 3) := dk_162 0 7 (dk_at dksX0_on_3 10 rfl rfl)
theorem dX0_on_83 : decode cX0_on 83 = .ok (.iconst 1, 1) := dk_4 (dk_at dksX0_on_3 13 rfl rfl)
theorem dX0_on_84 : decode cX0_on 84 = .ok (.goto 4, 3) := dk_167 0 4 (dk_at dksX0_on_3 14 rfl rfl)
theorem dX0_on_87 : decode cX0_on 87 = .ok (.iconst 0, 1) := dk_3 (dk_at dksX0_on_3 17 rfl rfl)
theorem dX0_on_88 : decode cX0_on 88 = .ok (.istore 4, 2) := dk_54 4 (dk_at dksX0_on_3 18 rfl rfl)
theorem dX0_on_90 : decode cX0_on 90 = .ok (.aload_n 0, 1) := dk_42 (dk_at dksX0_on_3 20 rfl rfl)
theorem dX0_on_91 : decode cX0_on 91 = .ok (.getfield 75, 3) := dk_180 0 75 (dk_at dksX0_on_3 21 rfl rfl)
theorem dX0_on_94 : decode cX0_on 94 = .ok (.aload_n 0, 1) := dk_42 (dk_at dksX0_on_4 0 rfl rfl)
theorem dX0_on_95 : decode cX0_on 95 = .ok (.getfield 71, 3) := dk_180 0 71 (dk_at dksX0_on_4 1 rfl rfl)
theorem dX0_on_98 : decode cX0_on 98 = .ok (.invokevirtual 262, 3) := dk_182 1 6 (dk_at dksX0_on_4 4 rfl rfl)
theorem dX0_on_101 : decode cX0_on 101 = .ok (.iconst 0, 1) := dk_3 (dk_at dksX0_on_4 7 rfl rfl)
theorem dX0_on_102 : decode cX0_on 102 = .ok (.putfield 204, 3) := dk_181 0 204 (dk_at dksX0_on_4 8 rfl rfl)
theorem dX0_on_105 : decode cX0_on 105 = .ok (.iconst 0, 1) := dk_3 (dk_at dksX0_on_4 11 rfl rfl)
theorem dX0_on_106 : decode cX0_on 106 = .ok (.istore 5, 2) := dk_54 5 (dk_at dksX0_on_4 12 rfl rfl)
theorem dX0_on_108 : decode cX0_on 108 = .ok (.iload 5, 2) := dk_21 5 (dk_at dksX0_on_4 14 rfl rfl)
theorem dX0_on_110 : decode cX0_on 110 = .ok (.aload_n 0, 1) := dk_42 (dk_at dksX0_on_4 16 rfl rfl)
theorem dX0_on_111 : decode cX0_on 111 = .ok (.invokevirtual 165, 3) := dk_182 0 165 (dk_at dksX0_on_4 17 rfl rfl)
theorem dX0_on_114 : decode cX0_on 114 = .ok (.if_icmp .gt 28, 3) := dk_163 0 28 (dk_at dksX0_on_4 20 rfl rfl)
theorem dX0_on_117 : decode cX0_on 117 = .ok (.iload 4, 2) := dk_21 4 (dk_at dksX0_on_5 0 rfl rfl)
theorem dX0_on_119 : decode cX0_on 119 = .ok (.ifCond .eq 23, 3) := dk_153 0 23 (dk_at dksX0_on_5 2 rfl rfl)
theorem dX0_on_122 : decode cX0_on 122 = .ok (.aload_n 0, 1) := dk_42 (dk_at dksX0_on_5 5 rfl rfl)
theorem dX0_on_123 : decode cX0_on 123 = .ok (.iload 5, 2) := dk_21 5 (dk_at dksX0_on_5 6 rfl rfl)
theorem dX0_on_125 : decode cX0_on 125 = .ok (.iconst 3, 1) := dk_6 (dk_at dksX0_on_5 8 rfl rfl)
theorem dX0_on_126 : decode cX0_on 126 = .ok (.iload_n 2, 1) := dk_28 (dk_at dksX0_on_5 9 rfl rfl)
theorem dX0_on_127 : decode cX0_on 127 = .ok (.iload 5, 2) := dk_21 5 (dk_at dksX0_on_5 10 rfl rfl)
theorem dX0_on_129 : decode cX0_on 129 = .ok (.imul, 1) := dk_104 (dk_at dksX0_on_5 12 rfl rfl)
theorem dX0_on_130 : decode cX0_on 130 = .ok (.iadd, 1) := dk_96 (dk_at dksX0_on_5 13 rfl rfl)
theorem dX0_on_131 : decode cX0_on 131 = .ok (.invokevirtual 386, 3) := dk_182 1 130 (dk_at dksX0_on_5 14 rfl rfl)
theorem dX0_on_134 : decode cX0_on 134 = .ok (.istore 4, 2) := dk_54 4 (dk_at dksX0_on_5 17 rfl rfl)
theorem dX0_on_136 : decode cX0_on 136 = .ok (.iinc 5 1, 3) := dk_132 5 1 (dk_at dksX0_on_5 19 rfl rfl)
theorem dX0_on_139 : decode cX0_on 139 = .ok (.goto (-31), 3) := dk_167 255 225 (dk_at dksX0_on_6 0 rfl rfl)
theorem dX0_on_142 : decode cX0_on 142 = .ok (.iconst 0, 1) := dk_3 (dk_at dksX0_on_6 3 rfl rfl)
theorem dX0_on_143 : decode cX0_on 143 = .ok (.istore 5, 2) := dk_54 5 (dk_at dksX0_on_6 4 rfl rfl)
theorem dX0_on_145 : decode cX0_on 145 = .ok (.iload 5, 2) := dk_21 5 (dk_at dksX0_on_6 6 rfl rfl)
theorem dX0_on_147 : decode cX0_on 147 = .ok (.aload_n 0, 1) := dk_42 (dk_at dksX0_on_6 8 rfl rfl)
theorem dX0_on_148 : decode cX0_on 148 = .ok (.invokevirtual 165, 3) := dk_182 0 165 (dk_at dksX0_on_6 9 rfl rfl)
theorem dX0_on_151 : decode cX0_on 151 = .ok (.if_icmp .ge 28, 3) := dk_162 0 28 (dk_at dksX0_on_6 12 rfl rfl)
theorem dX0_on_154 : decode cX0_on 154 = .ok (.iload 4, 2) := dk_21 4 (dk_at dksX0_on_6 15 rfl rfl)
theorem dX0_on_156 : decode cX0_on 156 = .ok (.ifCond .eq 23, 3) := dk_153 0 23 (dk_at dksX0_on_6 17 rfl rfl)
theorem dX0_on_159 : decode cX0_on 159 = .ok (.aload_n 0, 1) := dk_42 (dk_at dksX0_on_6 20 rfl rfl)
theorem dX0_on_160 : decode cX0_on 160 = .ok (.iload 5, 2) := dk_21 5 (dk_at dksX0_on_6 21 rfl rfl)
theorem dX0_on_162 : decode cX0_on 162 = .ok (.iload_n 3, 1) := dk_29 (dk_at dksX0_on_6 23 rfl rfl)
theorem dX0_on_163 : decode cX0_on 163 = .ok (.iconst 3, 1) := dk_6 (dk_at dksX0_on_7 0 rfl rfl)
theorem dX0_on_164 : decode cX0_on 164 = .ok (.iload 5, 2) := dk_21 5 (dk_at dksX0_on_7 1 rfl rfl)
theorem dX0_on_166 : decode cX0_on 166 = .ok (.imul, 1) := dk_104 (dk_at dksX0_on_7 3 rfl rfl)
theorem dX0_on_167 : decode cX0_on 167 = .ok (.iadd, 1) := dk_96 (dk_at dksX0_on_7 4 rfl rfl)
theorem dX0_on_168 : decode cX0_on 168 = .ok (.invokevirtual 389, 3) := dk_182 1 133 (dk_at dksX0_on_7 5 rfl rfl)
theorem dX0_on_171 : decode cX0_on 171 = .ok (.istore 4, 2) := dk_54 4 (dk_at dksX0_on_7 8 rfl rfl)
theorem dX0_on_173 : decode cX0_on 173 = .ok (.iinc 5 1, 3) := dk_132 5 1 (dk_at dksX0_on_7 10 rfl rfl)
theorem dX0_on_176 : decode cX0_on 176 = .ok (.goto (-31), 3) := dk_167 255 225 (dk_at dksX0_on_7 13 rfl rfl)
theorem dX0_on_179 : decode cX0_on 179 = .ok (.iload 4, 2) := dk_21 4 (dk_at dksX0_on_7 16 rfl rfl)
theorem dX0_on_181 : decode cX0_on 181 = .ok (.ifCond .ne 17, 3) := dk_154 0 17 (dk_at dksX0_on_7 18 rfl rfl)
theorem dX0_on_184 : decode cX0_on 184 = .ok (.aload_n 0, 1) := dk_42 (dk_at dksX0_on_7 21 rfl rfl)
theorem dX0_on_185 : decode cX0_on 185 = .ok (.iconst 5, 1) := dk_8 (dk_at dksX0_on_7 22 rfl rfl)
theorem dX0_on_186 : decode cX0_on 186 = .ok (.invokevirtual 107, 3) := dk_182 0 107 (dk_at dksX0_on_8 0 rfl rfl)
theorem dX0_on_189 : decode cX0_on 189 = .ok (.ifCond .lt 7, 3) := dk_155 0 7 (dk_at dksX0_on_8 3 rfl rfl)
theorem dX0_on_192 : decode cX0_on 192 = .ok (.iconst 1, 1) := dk_4 (dk_at dksX0_on_8 6 rfl rfl)
theorem dX0_on_193 : decode cX0_on 193 = .ok (.goto 4, 3) := dk_167 0 4 (dk_at dksX0_on_8 7 rfl rfl)
theorem dX0_on_196 : decode cX0_on 196 = .ok (.iconst 0, 1) := dk_3 (dk_at dksX0_on_8 10 rfl rfl)
theorem dX0_on_197 : decode cX0_on 197 = .ok (.ireturn, 1) := dk_172 (dk_at dksX0_on_8 11 rfl rfl)
theorem dX0_on_198 : decode cX0_on 198 = .ok (.aload_n 0, 1) := dk_42 (dk_at dksX0_on_8 12 rfl rfl)
theorem dX0_on_199 : decode cX0_on 199 = .ok (.getfield 75, 3) := dk_180 0 75 (dk_at dksX0_on_8 13 rfl rfl)
theorem dX0_on_202 : decode cX0_on 202 = .ok (.bipush 24, 2) := dk_16 24 (dk_at dksX0_on_8 16 rfl rfl)
theorem dX0_on_204 : decode cX0_on 204 = .ok (.aload_n 0, 1) := dk_42 (dk_at dksX0_on_8 18 rfl rfl)
theorem dX0_on_205 : decode cX0_on 205 = .ok (.iconst 0, 1) := dk_3 (dk_at dksX0_on_8 19 rfl rfl)
theorem dX0_on_206 : decode cX0_on 206 = .ok (.invokevirtual 383, 3) := dk_182 1 127 (dk_at dksX0_on_8 20 rfl rfl)
theorem dX0_on_209 : decode cX0_on 209 = .ok (.imul, 1) := dk_104 (dk_at dksX0_on_8 23 rfl rfl)
theorem dX0_on_210 : decode cX0_on 210 = .ok (.aload_n 0, 1) := dk_42 (dk_at dksX0_on_9 0 rfl rfl)
theorem dX0_on_211 : decode cX0_on 211 = .ok (.iconst 2, 1) := dk_5 (dk_at dksX0_on_9 1 rfl rfl)
theorem dX0_on_212 : decode cX0_on 212 = .ok (.invokevirtual 316, 3) := dk_182 1 60 (dk_at dksX0_on_9 2 rfl rfl)
theorem dX0_on_215 : decode cX0_on 215 = .ok (.iadd, 1) := dk_96 (dk_at dksX0_on_9 5 rfl rfl)
theorem dX0_on_216 : decode cX0_on 216 = .ok (.putfield 201, 3) := dk_181 0 201 (dk_at dksX0_on_9 6 rfl rfl)
theorem dX0_on_219 : decode cX0_on 219 = .ok (.aload_n 0, 1) := dk_42 (dk_at dksX0_on_9 9 rfl rfl)
theorem dX0_on_220 : decode cX0_on 220 = .ok (.getfield 75, 3) := dk_180 0 75 (dk_at dksX0_on_9 10 rfl rfl)
theorem dX0_on_223 : decode cX0_on 223 = .ok (.iconst 0, 1) := dk_3 (dk_at dksX0_on_9 13 rfl rfl)
theorem dX0_on_224 : decode cX0_on 224 = .ok (.putfield 215, 3) := dk_181 0 215 (dk_at dksX0_on_9 14 rfl rfl)
theorem dX0_on_227 : decode cX0_on 227 = .ok (.aload_n 0, 1) := dk_42 (dk_at dksX0_on_9 17 rfl rfl)
theorem dX0_on_228 : decode cX0_on 228 = .ok (.getfield 71, 3) := dk_180 0 71 (dk_at dksX0_on_9 18 rfl rfl)
theorem dX0_on_231 : decode cX0_on 231 = .ok (.aload_n 0, 1) := dk_42 (dk_at dksX0_on_9 21 rfl rfl)
theorem dX0_on_232 : decode cX0_on 232 = .ok (.getfield 75, 3) := dk_180 0 75 (dk_at dksX0_on_10 0 rfl rfl)
theorem dX0_on_235 : decode cX0_on 235 = .ok (.invokevirtual 262, 3) := dk_182 1 6 (dk_at dksX0_on_10 3 rfl rfl)
theorem dX0_on_238 : decode cX0_on 238 = .ok (.pop, 1) := dk_87 (dk_at dksX0_on_10 6 rfl rfl)
theorem dX0_on_239 : decode cX0_on 239 = .ok (.aload_n 0, 1) := dk_42 (dk_at dksX0_on_10 7 rfl rfl)
theorem dX0_on_240 : decode cX0_on 240 = .ok (.iconst 0, 1) := dk_3 (dk_at dksX0_on_10 8 rfl rfl)
theorem dX0_on_241 : decode cX0_on 241 = .ok (.putfield 137, 3) := dk_181 0 137 (dk_at dksX0_on_10 9 rfl rfl)
theorem dX0_on_244 : decode cX0_on 244 = .ok (.iconst 1, 1) := dk_4 (dk_at dksX0_on_10 12 rfl rfl)
theorem dX0_on_245 : decode cX0_on 245 = .ok (.ireturn, 1) := dk_172 (dk_at dksX0_on_10 13 rfl rfl)
abbrev cX0_twoAt : ByteArray := prog_1_method_68_code
def yX0_twoAt : MethodName := ⟨RX0, "twoAt", "(I)I"⟩
def dkwX0_twoAt_0 : List UInt8 := [42, 27, 182, 1, 60, 16, 8, 120, 42, 27, 4, 96, 182, 1, 60, 128, 172]
abbrev dktX0_twoAt_0 : List UInt8 := dkwX0_twoAt_0 ++ []
theorem dksX0_twoAt_0 : cX0_twoAt.data.toList.drop 0 = dktX0_twoAt_0 := by decide +kernel
theorem dX0_twoAt_0 : decode cX0_twoAt 0 = .ok (.aload_n 0, 1) := dk_42 (dk_at dksX0_twoAt_0 0 rfl rfl)
theorem dX0_twoAt_1 : decode cX0_twoAt 1 = .ok (.iload_n 1, 1) := dk_27 (dk_at dksX0_twoAt_0 1 rfl rfl)
theorem dX0_twoAt_2 : decode cX0_twoAt 2 = .ok (.invokevirtual 316, 3) := dk_182 1 60 (dk_at dksX0_twoAt_0 2 rfl rfl)
theorem dX0_twoAt_5 : decode cX0_twoAt 5 = .ok (.bipush 8, 2) := dk_16 8 (dk_at dksX0_twoAt_0 5 rfl rfl)
theorem dX0_twoAt_7 : decode cX0_twoAt 7 = .ok (.ishl, 1) := dk_120 (dk_at dksX0_twoAt_0 7 rfl rfl)
theorem dX0_twoAt_8 : decode cX0_twoAt 8 = .ok (.aload_n 0, 1) := dk_42 (dk_at dksX0_twoAt_0 8 rfl rfl)
theorem dX0_twoAt_9 : decode cX0_twoAt 9 = .ok (.iload_n 1, 1) := dk_27 (dk_at dksX0_twoAt_0 9 rfl rfl)
theorem dX0_twoAt_10 : decode cX0_twoAt 10 = .ok (.iconst 1, 1) := dk_4 (dk_at dksX0_twoAt_0 10 rfl rfl)
theorem dX0_twoAt_11 : decode cX0_twoAt 11 = .ok (.iadd, 1) := dk_96 (dk_at dksX0_twoAt_0 11 rfl rfl)
theorem dX0_twoAt_12 : decode cX0_twoAt 12 = .ok (.invokevirtual 316, 3) := dk_182 1 60 (dk_at dksX0_twoAt_0 12 rfl rfl)
theorem dX0_twoAt_15 : decode cX0_twoAt 15 = .ok (.ior, 1) := dk_128 (dk_at dksX0_twoAt_0 15 rfl rfl)
theorem dX0_twoAt_16 : decode cX0_twoAt 16 = .ok (.ireturn, 1) := dk_172 (dk_at dksX0_twoAt_0 16 rfl rfl)
abbrev cX0_profileOn : ByteArray := prog_1_method_69_code
def yX0_profileOn : MethodName := ⟨RX0, "profileOn", "(II)Z"⟩
def dkwX0_profileOn_6 : List UInt8 := [3, 62, 132, 4, 1, 167, 255, 183, 29, 172]
abbrev dktX0_profileOn_6 : List UInt8 := dkwX0_profileOn_6 ++ []
def dkwX0_profileOn_5 : List UInt8 := [180, 0, 247, 27, 50, 21, 4, 46, 42, 21, 4, 182, 0, 189, 180, 0, 230, 163, 0, 7, 4, 167, 0, 4]
abbrev dktX0_profileOn_5 : List UInt8 := dkwX0_profileOn_5 ++ dktX0_profileOn_6
def dkwX0_profileOn_4 : List UInt8 := [5, 42, 182, 0, 161, 104, 96, 21, 4, 96, 182, 1, 60, 79, 29, 153, 0, 31, 42, 180, 0, 75]
abbrev dktX0_profileOn_4 : List UInt8 := dkwX0_profileOn_4 ++ dktX0_profileOn_5
def dkwX0_profileOn_3 : List UInt8 := [54, 4, 21, 4, 42, 182, 0, 163, 162, 0, 70, 42, 180, 0, 75, 180, 0, 247, 27, 50, 21, 4, 42, 28]
abbrev dktX0_profileOn_3 : List UInt8 := dkwX0_profileOn_3 ++ dktX0_profileOn_4
def dkwX0_profileOn_2 : List UInt8 := [27, 50, 21, 4, 46, 17, 3, 231, 163, 0, 7, 4, 167, 0, 4, 3, 62, 132, 4, 1, 167, 255, 194, 3]
abbrev dktX0_profileOn_2 : List UInt8 := dkwX0_profileOn_2 ++ dktX0_profileOn_3
def dkwX0_profileOn_1 : List UInt8 := [21, 4, 42, 28, 5, 21, 4, 104, 96, 182, 1, 127, 79, 29, 153, 0, 25, 42, 180, 0, 75, 180, 0, 243]
abbrev dktX0_profileOn_1 : List UInt8 := dkwX0_profileOn_1 ++ dktX0_profileOn_2
def dkwX0_profileOn_0 : List UInt8 := [4, 62, 3, 54, 4, 21, 4, 42, 182, 0, 161, 162, 0, 59, 42, 180, 0, 75, 180, 0, 243, 27, 50]
abbrev dktX0_profileOn_0 : List UInt8 := dkwX0_profileOn_0 ++ dktX0_profileOn_1
theorem dksX0_profileOn_0 : cX0_profileOn.data.toList.drop 0 = dktX0_profileOn_0 := by decide +kernel
theorem dksX0_profileOn_1 : cX0_profileOn.data.toList.drop 23 = dktX0_profileOn_1 := dk_seg dksX0_profileOn_0 23 rfl rfl
theorem dksX0_profileOn_2 : cX0_profileOn.data.toList.drop 47 = dktX0_profileOn_2 := dk_seg dksX0_profileOn_1 24 rfl rfl
theorem dksX0_profileOn_3 : cX0_profileOn.data.toList.drop 71 = dktX0_profileOn_3 := dk_seg dksX0_profileOn_2 24 rfl rfl
theorem dksX0_profileOn_4 : cX0_profileOn.data.toList.drop 95 = dktX0_profileOn_4 := dk_seg dksX0_profileOn_3 24 rfl rfl
theorem dksX0_profileOn_5 : cX0_profileOn.data.toList.drop 117 = dktX0_profileOn_5 := dk_seg dksX0_profileOn_4 22 rfl rfl
theorem dksX0_profileOn_6 : cX0_profileOn.data.toList.drop 141 = dktX0_profileOn_6 := dk_seg dksX0_profileOn_5 24 rfl rfl
theorem dX0_profileOn_0 : decode cX0_profileOn 0 = .ok (.iconst 1, 1) := dk_4 (dk_at dksX0_profileOn_0 0 rfl rfl)
theorem dX0_profileOn_1 : decode cX0_profileOn 1 = .ok (.istore_n 3, 1) := dk_62 (dk_at dksX0_profileOn_0 1 rfl rfl)
theorem dX0_profileOn_2 : decode cX0_profileOn 2 = .ok (.iconst 0, 1) := dk_3 (dk_at dksX0_profileOn_0 2 rfl rfl)
theorem dX0_profileOn_3 : decode cX0_profileOn 3 = .ok (.istore 4, 2) := dk_54 4 (dk_at dksX0_profileOn_0 3 rfl rfl)
theorem dX0_profileOn_5 : decode cX0_profileOn 5 = .ok (.iload 4, 2) := dk_21 4 (dk_at dksX0_profileOn_0 5 rfl rfl)
theorem dX0_profileOn_7 : decode cX0_profileOn 7 = .ok (.aload_n 0, 1) := dk_42 (dk_at dksX0_profileOn_0 7 rfl rfl)
theorem dX0_profileOn_8 : decode cX0_profileOn 8 = .ok (.invokevirtual 161, 3) := dk_182 0 161 (dk_at dksX0_profileOn_0 8 rfl rfl)
theorem dX0_profileOn_11 : decode cX0_profileOn 11 = .ok (.if_icmp .ge 59, 3) := dk_162 0 59 (dk_at dksX0_profileOn_0 11 rfl rfl)
theorem dX0_profileOn_14 : decode cX0_profileOn 14 = .ok (.aload_n 0, 1) := dk_42 (dk_at dksX0_profileOn_0 14 rfl rfl)
theorem dX0_profileOn_15 : decode cX0_profileOn 15 = .ok (.getfield 75, 3) := dk_180 0 75 (dk_at dksX0_profileOn_0 15 rfl rfl)
theorem dX0_profileOn_18 : decode cX0_profileOn 18 = .ok (.getfield 243, 3) := dk_180 0 243 (dk_at dksX0_profileOn_0 18 rfl rfl)
theorem dX0_profileOn_21 : decode cX0_profileOn 21 = .ok (.iload_n 1, 1) := dk_27 (dk_at dksX0_profileOn_0 21 rfl rfl)
theorem dX0_profileOn_22 : decode cX0_profileOn 22 = .ok (.aaload, 1) := dk_50 (dk_at dksX0_profileOn_0 22 rfl rfl)
theorem dX0_profileOn_23 : decode cX0_profileOn 23 = .ok (.iload 4, 2) := dk_21 4 (dk_at dksX0_profileOn_1 0 rfl rfl)
theorem dX0_profileOn_25 : decode cX0_profileOn 25 = .ok (.aload_n 0, 1) := dk_42 (dk_at dksX0_profileOn_1 2 rfl rfl)
theorem dX0_profileOn_26 : decode cX0_profileOn 26 = .ok (.iload_n 2, 1) := dk_28 (dk_at dksX0_profileOn_1 3 rfl rfl)
theorem dX0_profileOn_27 : decode cX0_profileOn 27 = .ok (.iconst 2, 1) := dk_5 (dk_at dksX0_profileOn_1 4 rfl rfl)
theorem dX0_profileOn_28 : decode cX0_profileOn 28 = .ok (.iload 4, 2) := dk_21 4 (dk_at dksX0_profileOn_1 5 rfl rfl)
theorem dX0_profileOn_30 : decode cX0_profileOn 30 = .ok (.imul, 1) := dk_104 (dk_at dksX0_profileOn_1 7 rfl rfl)
theorem dX0_profileOn_31 : decode cX0_profileOn 31 = .ok (.iadd, 1) := dk_96 (dk_at dksX0_profileOn_1 8 rfl rfl)
theorem dX0_profileOn_32 : decode cX0_profileOn 32 = .ok (.invokevirtual 383, 3) := dk_182 1 127 (dk_at dksX0_profileOn_1 9 rfl rfl)
theorem dX0_profileOn_35 : decode cX0_profileOn 35 = .ok (.iastore, 1) := dk_79 (dk_at dksX0_profileOn_1 12 rfl rfl)
theorem dX0_profileOn_36 : decode cX0_profileOn 36 = .ok (.iload_n 3, 1) := dk_29 (dk_at dksX0_profileOn_1 13 rfl rfl)
theorem dX0_profileOn_37 : decode cX0_profileOn 37 = .ok (.ifCond .eq 25, 3) := dk_153 0 25 (dk_at dksX0_profileOn_1 14 rfl rfl)
theorem dX0_profileOn_40 : decode cX0_profileOn 40 = .ok (.aload_n 0, 1) := dk_42 (dk_at dksX0_profileOn_1 17 rfl rfl)
theorem dX0_profileOn_41 : decode cX0_profileOn 41 = .ok (.getfield 75, 3) := dk_180 0 75 (dk_at dksX0_profileOn_1 18 rfl rfl)
theorem dX0_profileOn_44 : decode cX0_profileOn 44 = .ok (.getfield 243, 3) := dk_180 0 243 (dk_at dksX0_profileOn_1 21 rfl rfl)
theorem dX0_profileOn_47 : decode cX0_profileOn 47 = .ok (.iload_n 1, 1) := dk_27 (dk_at dksX0_profileOn_2 0 rfl rfl)
theorem dX0_profileOn_48 : decode cX0_profileOn 48 = .ok (.aaload, 1) := dk_50 (dk_at dksX0_profileOn_2 1 rfl rfl)
theorem dX0_profileOn_49 : decode cX0_profileOn 49 = .ok (.iload 4, 2) := dk_21 4 (dk_at dksX0_profileOn_2 2 rfl rfl)
theorem dX0_profileOn_51 : decode cX0_profileOn 51 = .ok (.iaload, 1) := dk_46 (dk_at dksX0_profileOn_2 4 rfl rfl)
theorem dX0_profileOn_52 : decode cX0_profileOn 52 = .ok (.sipush 999, 3) := dk_17 3 231 (dk_at dksX0_profileOn_2 5 rfl rfl)
theorem dX0_profileOn_55 : decode cX0_profileOn 55 = .ok (.if_icmp .gt 7, 3) := dk_163 0 7 (dk_at dksX0_profileOn_2 8 rfl rfl)
theorem dX0_profileOn_58 : decode cX0_profileOn 58 = .ok (.iconst 1, 1) := dk_4 (dk_at dksX0_profileOn_2 11 rfl rfl)
theorem dX0_profileOn_59 : decode cX0_profileOn 59 = .ok (.goto 4, 3) := dk_167 0 4 (dk_at dksX0_profileOn_2 12 rfl rfl)
theorem dX0_profileOn_62 : decode cX0_profileOn 62 = .ok (.iconst 0, 1) := dk_3 (dk_at dksX0_profileOn_2 15 rfl rfl)
theorem dX0_profileOn_63 : decode cX0_profileOn 63 = .ok (.istore_n 3, 1) := dk_62 (dk_at dksX0_profileOn_2 16 rfl rfl)
theorem dX0_profileOn_64 : decode cX0_profileOn 64 = .ok (.iinc 4 1, 3) := dk_132 4 1 (dk_at dksX0_profileOn_2 17 rfl rfl)
theorem dX0_profileOn_67 : decode cX0_profileOn 67 = .ok (.goto (-62), 3) := dk_167 255 194 (dk_at dksX0_profileOn_2 20 rfl rfl)
theorem dX0_profileOn_70 : decode cX0_profileOn 70 = .ok (.iconst 0, 1) := dk_3 (dk_at dksX0_profileOn_2 23 rfl rfl)
theorem dX0_profileOn_71 : decode cX0_profileOn 71 = .ok (.istore 4, 2) := dk_54 4 (dk_at dksX0_profileOn_3 0 rfl rfl)
theorem dX0_profileOn_73 : decode cX0_profileOn 73 = .ok (.iload 4, 2) := dk_21 4 (dk_at dksX0_profileOn_3 2 rfl rfl)
theorem dX0_profileOn_75 : decode cX0_profileOn 75 = .ok (.aload_n 0, 1) := dk_42 (dk_at dksX0_profileOn_3 4 rfl rfl)
theorem dX0_profileOn_76 : decode cX0_profileOn 76 = .ok (.invokevirtual 163, 3) := dk_182 0 163 (dk_at dksX0_profileOn_3 5 rfl rfl)
theorem dX0_profileOn_79 : decode cX0_profileOn 79 = .ok (.if_icmp .ge 70, 3) := dk_162 0 70 (dk_at dksX0_profileOn_3 8 rfl rfl)
theorem dX0_profileOn_82 : decode cX0_profileOn 82 = .ok (.aload_n 0, 1) := dk_42 (dk_at dksX0_profileOn_3 11 rfl rfl)
theorem dX0_profileOn_83 : decode cX0_profileOn 83 = .ok (.getfield 75, 3) := dk_180 0 75 (dk_at dksX0_profileOn_3 12 rfl rfl)
theorem dX0_profileOn_86 : decode cX0_profileOn 86 = .ok (.getfield 247, 3) := dk_180 0 247 (dk_at dksX0_profileOn_3 15 rfl rfl)
theorem dX0_profileOn_89 : decode cX0_profileOn 89 = .ok (.iload_n 1, 1) := dk_27 (dk_at dksX0_profileOn_3 18 rfl rfl)
theorem dX0_profileOn_90 : decode cX0_profileOn 90 = .ok (.aaload, 1) := dk_50 (dk_at dksX0_profileOn_3 19 rfl rfl)
theorem dX0_profileOn_91 : decode cX0_profileOn 91 = .ok (.iload 4, 2) := dk_21 4 (dk_at dksX0_profileOn_3 20 rfl rfl)
theorem dX0_profileOn_93 : decode cX0_profileOn 93 = .ok (.aload_n 0, 1) := dk_42 (dk_at dksX0_profileOn_3 22 rfl rfl)
theorem dX0_profileOn_94 : decode cX0_profileOn 94 = .ok (.iload_n 2, 1) := dk_28 (dk_at dksX0_profileOn_3 23 rfl rfl)
theorem dX0_profileOn_95 : decode cX0_profileOn 95 = .ok (.iconst 2, 1) := dk_5 (dk_at dksX0_profileOn_4 0 rfl rfl)
theorem dX0_profileOn_96 : decode cX0_profileOn 96 = .ok (.aload_n 0, 1) := dk_42 (dk_at dksX0_profileOn_4 1 rfl rfl)
theorem dX0_profileOn_97 : decode cX0_profileOn 97 = .ok (.invokevirtual 161, 3) := dk_182 0 161 (dk_at dksX0_profileOn_4 2 rfl rfl)
theorem dX0_profileOn_100 : decode cX0_profileOn 100 = .ok (.imul, 1) := dk_104 (dk_at dksX0_profileOn_4 5 rfl rfl)
theorem dX0_profileOn_101 : decode cX0_profileOn 101 = .ok (.iadd, 1) := dk_96 (dk_at dksX0_profileOn_4 6 rfl rfl)
theorem dX0_profileOn_102 : decode cX0_profileOn 102 = .ok (.iload 4, 2) := dk_21 4 (dk_at dksX0_profileOn_4 7 rfl rfl)
theorem dX0_profileOn_104 : decode cX0_profileOn 104 = .ok (.iadd, 1) := dk_96 (dk_at dksX0_profileOn_4 9 rfl rfl)
theorem dX0_profileOn_105 : decode cX0_profileOn 105 = .ok (.invokevirtual 316, 3) := dk_182 1 60 (dk_at dksX0_profileOn_4 10 rfl rfl)
theorem dX0_profileOn_108 : decode cX0_profileOn 108 = .ok (.iastore, 1) := dk_79 (dk_at dksX0_profileOn_4 13 rfl rfl)
theorem dX0_profileOn_109 : decode cX0_profileOn 109 = .ok (.iload_n 3, 1) := dk_29 (dk_at dksX0_profileOn_4 14 rfl rfl)
theorem dX0_profileOn_110 : decode cX0_profileOn 110 = .ok (.ifCond .eq 31, 3) := dk_153 0 31 (dk_at dksX0_profileOn_4 15 rfl rfl)
theorem dX0_profileOn_113 : decode cX0_profileOn 113 = .ok (.aload_n 0, 1) := dk_42 (dk_at dksX0_profileOn_4 18 rfl rfl)
theorem dX0_profileOn_114 : decode cX0_profileOn 114 = .ok (.getfield 75, 3) := dk_180 0 75 (dk_at dksX0_profileOn_4 19 rfl rfl)
theorem dX0_profileOn_117 : decode cX0_profileOn 117 = .ok (.getfield 247, 3) := dk_180 0 247 (dk_at dksX0_profileOn_5 0 rfl rfl)
theorem dX0_profileOn_120 : decode cX0_profileOn 120 = .ok (.iload_n 1, 1) := dk_27 (dk_at dksX0_profileOn_5 3 rfl rfl)
theorem dX0_profileOn_121 : decode cX0_profileOn 121 = .ok (.aaload, 1) := dk_50 (dk_at dksX0_profileOn_5 4 rfl rfl)
theorem dX0_profileOn_122 : decode cX0_profileOn 122 = .ok (.iload 4, 2) := dk_21 4 (dk_at dksX0_profileOn_5 5 rfl rfl)
theorem dX0_profileOn_124 : decode cX0_profileOn 124 = .ok (.iaload, 1) := dk_46 (dk_at dksX0_profileOn_5 7 rfl rfl)
theorem dX0_profileOn_125 : decode cX0_profileOn 125 = .ok (.aload_n 0, 1) := dk_42 (dk_at dksX0_profileOn_5 8 rfl rfl)
theorem dX0_profileOn_126 : decode cX0_profileOn 126 = .ok (.iload 4, 2) := dk_21 4 (dk_at dksX0_profileOn_5 9 rfl rfl)
theorem dX0_profileOn_128 : decode cX0_profileOn 128 = .ok (.invokevirtual 189, 3) := dk_182 0 189 (dk_at dksX0_profileOn_5 11 rfl rfl)
theorem dX0_profileOn_131 : decode cX0_profileOn 131 = .ok (.getfield 230, 3) := dk_180 0 230 (dk_at dksX0_profileOn_5 14 rfl rfl)
theorem dX0_profileOn_134 : decode cX0_profileOn 134 = .ok (.if_icmp .gt 7, 3) := dk_163 0 7 (dk_at dksX0_profileOn_5 17 rfl rfl)
theorem dX0_profileOn_137 : decode cX0_profileOn 137 = .ok (.iconst 1, 1) := dk_4 (dk_at dksX0_profileOn_5 20 rfl rfl)
theorem dX0_profileOn_138 : decode cX0_profileOn 138 = .ok (.goto 4, 3) := dk_167 0 4 (dk_at dksX0_profileOn_5 21 rfl rfl)
theorem dX0_profileOn_141 : decode cX0_profileOn 141 = .ok (.iconst 0, 1) := dk_3 (dk_at dksX0_profileOn_6 0 rfl rfl)
theorem dX0_profileOn_142 : decode cX0_profileOn 142 = .ok (.istore_n 3, 1) := dk_62 (dk_at dksX0_profileOn_6 1 rfl rfl)
theorem dX0_profileOn_143 : decode cX0_profileOn 143 = .ok (.iinc 4 1, 3) := dk_132 4 1 (dk_at dksX0_profileOn_6 2 rfl rfl)
theorem dX0_profileOn_146 : decode cX0_profileOn 146 = .ok (.goto (-73), 3) := dk_167 255 183 (dk_at dksX0_profileOn_6 5 rfl rfl)
theorem dX0_profileOn_149 : decode cX0_profileOn 149 = .ok (.iload_n 3, 1) := dk_29 (dk_at dksX0_profileOn_6 8 rfl rfl)
theorem dX0_profileOn_150 : decode cX0_profileOn 150 = .ok (.ireturn, 1) := dk_172 (dk_at dksX0_profileOn_6 9 rfl rfl)
abbrev cX0_personOn : ByteArray := prog_1_method_70_code
def yX0_personOn : MethodName := ⟨RX0, "personOn", "(II)Z"⟩
def dkwX0_personOn_3 : List UInt8 := [167, 0, 4, 3, 172]
abbrev dktX0_personOn_3 : List UInt8 := dkwX0_personOn_3 ++ []
def dkwX0_personOn_2 : List UInt8 := [182, 1, 60, 5, 162, 0, 22, 42, 180, 0, 75, 180, 0, 218, 27, 46, 17, 39, 15, 163, 0, 7, 4]
abbrev dktX0_personOn_2 : List UInt8 := dkwX0_personOn_2 ++ dktX0_personOn_3
def dkwX0_personOn_1 : List UInt8 := [128, 181, 0, 204, 42, 180, 0, 75, 180, 0, 218, 27, 42, 28, 4, 96, 182, 1, 127, 79, 42, 28]
abbrev dktX0_personOn_1 : List UInt8 := dkwX0_personOn_1 ++ dktX0_personOn_2
def dkwX0_personOn_0 : List UInt8 := [42, 180, 0, 75, 89, 180, 0, 204, 42, 28, 182, 1, 60, 4, 160, 0, 9, 4, 27, 120, 167, 0, 4, 3]
abbrev dktX0_personOn_0 : List UInt8 := dkwX0_personOn_0 ++ dktX0_personOn_1
theorem dksX0_personOn_0 : cX0_personOn.data.toList.drop 0 = dktX0_personOn_0 := by decide +kernel
theorem dksX0_personOn_1 : cX0_personOn.data.toList.drop 24 = dktX0_personOn_1 := dk_seg dksX0_personOn_0 24 rfl rfl
theorem dksX0_personOn_2 : cX0_personOn.data.toList.drop 46 = dktX0_personOn_2 := dk_seg dksX0_personOn_1 22 rfl rfl
theorem dksX0_personOn_3 : cX0_personOn.data.toList.drop 69 = dktX0_personOn_3 := dk_seg dksX0_personOn_2 23 rfl rfl
theorem dX0_personOn_0 : decode cX0_personOn 0 = .ok (.aload_n 0, 1) := dk_42 (dk_at dksX0_personOn_0 0 rfl rfl)
theorem dX0_personOn_1 : decode cX0_personOn 1 = .ok (.getfield 75, 3) := dk_180 0 75 (dk_at dksX0_personOn_0 1 rfl rfl)
theorem dX0_personOn_4 : decode cX0_personOn 4 = .ok (.dup, 1) := dk_89 (dk_at dksX0_personOn_0 4 rfl rfl)
theorem dX0_personOn_5 : decode cX0_personOn 5 = .ok (.getfield 204, 3) := dk_180 0 204 (dk_at dksX0_personOn_0 5 rfl rfl)
theorem dX0_personOn_8 : decode cX0_personOn 8 = .ok (.aload_n 0, 1) := dk_42 (dk_at dksX0_personOn_0 8 rfl rfl)
theorem dX0_personOn_9 : decode cX0_personOn 9 = .ok (.iload_n 2, 1) := dk_28 (dk_at dksX0_personOn_0 9 rfl rfl)
theorem dX0_personOn_10 : decode cX0_personOn 10 = .ok (.invokevirtual 316, 3) := dk_182 1 60 (dk_at dksX0_personOn_0 10 rfl rfl)
theorem dX0_personOn_13 : decode cX0_personOn 13 = .ok (.iconst 1, 1) := dk_4 (dk_at dksX0_personOn_0 13 rfl rfl)
theorem dX0_personOn_14 : decode cX0_personOn 14 = .ok (.if_icmp .ne 9, 3) := dk_160 0 9 (dk_at dksX0_personOn_0 14 rfl rfl)
theorem dX0_personOn_17 : decode cX0_personOn 17 = .ok (.iconst 1, 1) := dk_4 (dk_at dksX0_personOn_0 17 rfl rfl)
theorem dX0_personOn_18 : decode cX0_personOn 18 = .ok (.iload_n 1, 1) := dk_27 (dk_at dksX0_personOn_0 18 rfl rfl)
theorem dX0_personOn_19 : decode cX0_personOn 19 = .ok (.ishl, 1) := dk_120 (dk_at dksX0_personOn_0 19 rfl rfl)
theorem dX0_personOn_20 : decode cX0_personOn 20 = .ok (.goto 4, 3) := dk_167 0 4 (dk_at dksX0_personOn_0 20 rfl rfl)
theorem dX0_personOn_23 : decode cX0_personOn 23 = .ok (.iconst 0, 1) := dk_3 (dk_at dksX0_personOn_0 23 rfl rfl)
theorem dX0_personOn_24 : decode cX0_personOn 24 = .ok (.ior, 1) := dk_128 (dk_at dksX0_personOn_1 0 rfl rfl)
theorem dX0_personOn_25 : decode cX0_personOn 25 = .ok (.putfield 204, 3) := dk_181 0 204 (dk_at dksX0_personOn_1 1 rfl rfl)
theorem dX0_personOn_28 : decode cX0_personOn 28 = .ok (.aload_n 0, 1) := dk_42 (dk_at dksX0_personOn_1 4 rfl rfl)
theorem dX0_personOn_29 : decode cX0_personOn 29 = .ok (.getfield 75, 3) := dk_180 0 75 (dk_at dksX0_personOn_1 5 rfl rfl)
theorem dX0_personOn_32 : decode cX0_personOn 32 = .ok (.getfield 218, 3) := dk_180 0 218 (dk_at dksX0_personOn_1 8 rfl rfl)
theorem dX0_personOn_35 : decode cX0_personOn 35 = .ok (.iload_n 1, 1) := dk_27 (dk_at dksX0_personOn_1 11 rfl rfl)
theorem dX0_personOn_36 : decode cX0_personOn 36 = .ok (.aload_n 0, 1) := dk_42 (dk_at dksX0_personOn_1 12 rfl rfl)
theorem dX0_personOn_37 : decode cX0_personOn 37 = .ok (.iload_n 2, 1) := dk_28 (dk_at dksX0_personOn_1 13 rfl rfl)
theorem dX0_personOn_38 : decode cX0_personOn 38 = .ok (.iconst 1, 1) := dk_4 (dk_at dksX0_personOn_1 14 rfl rfl)
theorem dX0_personOn_39 : decode cX0_personOn 39 = .ok (.iadd, 1) := dk_96 (dk_at dksX0_personOn_1 15 rfl rfl)
theorem dX0_personOn_40 : decode cX0_personOn 40 = .ok (.invokevirtual 383, 3) := dk_182 1 127 (dk_at dksX0_personOn_1 16 rfl rfl)
theorem dX0_personOn_43 : decode cX0_personOn 43 = .ok (.iastore, 1) := dk_79 (dk_at dksX0_personOn_1 19 rfl rfl)
theorem dX0_personOn_44 : decode cX0_personOn 44 = .ok (.aload_n 0, 1) := dk_42 (dk_at dksX0_personOn_1 20 rfl rfl)
theorem dX0_personOn_45 : decode cX0_personOn 45 = .ok (.iload_n 2, 1) := dk_28 (dk_at dksX0_personOn_1 21 rfl rfl)
theorem dX0_personOn_46 : decode cX0_personOn 46 = .ok (.invokevirtual 316, 3) := dk_182 1 60 (dk_at dksX0_personOn_2 0 rfl rfl)
theorem dX0_personOn_49 : decode cX0_personOn 49 = .ok (.iconst 2, 1) := dk_5 (dk_at dksX0_personOn_2 3 rfl rfl)
theorem dX0_personOn_50 : decode cX0_personOn 50 = .ok (.if_icmp .ge 22, 3) := dk_162 0 22 (dk_at dksX0_personOn_2 4 rfl rfl)
theorem dX0_personOn_53 : decode cX0_personOn 53 = .ok (.aload_n 0, 1) := dk_42 (dk_at dksX0_personOn_2 7 rfl rfl)
theorem dX0_personOn_54 : decode cX0_personOn 54 = .ok (.getfield 75, 3) := dk_180 0 75 (dk_at dksX0_personOn_2 8 rfl rfl)
theorem dX0_personOn_57 : decode cX0_personOn 57 = .ok (.getfield 218, 3) := dk_180 0 218 (dk_at dksX0_personOn_2 11 rfl rfl)
theorem dX0_personOn_60 : decode cX0_personOn 60 = .ok (.iload_n 1, 1) := dk_27 (dk_at dksX0_personOn_2 14 rfl rfl)
theorem dX0_personOn_61 : decode cX0_personOn 61 = .ok (.iaload, 1) := dk_46 (dk_at dksX0_personOn_2 15 rfl rfl)
theorem dX0_personOn_62 : decode cX0_personOn 62 = .ok (.sipush 9999, 3) := dk_17 39 15 (dk_at dksX0_personOn_2 16 rfl rfl)
theorem dX0_personOn_65 : decode cX0_personOn 65 = .ok (.if_icmp .gt 7, 3) := dk_163 0 7 (dk_at dksX0_personOn_2 19 rfl rfl)
theorem dX0_personOn_68 : decode cX0_personOn 68 = .ok (.iconst 1, 1) := dk_4 (dk_at dksX0_personOn_2 22 rfl rfl)
theorem dX0_personOn_69 : decode cX0_personOn 69 = .ok (.goto 4, 3) := dk_167 0 4 (dk_at dksX0_personOn_3 0 rfl rfl)
theorem dX0_personOn_72 : decode cX0_personOn 72 = .ok (.iconst 0, 1) := dk_3 (dk_at dksX0_personOn_3 3 rfl rfl)
theorem dX0_personOn_73 : decode cX0_personOn 73 = .ok (.ireturn, 1) := dk_172 (dk_at dksX0_personOn_3 4 rfl rfl)
abbrev cX0_status : ByteArray := prog_1_method_72_code
def yX0_status : MethodName := ⟨RX0, "status", "(I)I"⟩
def dkwX0_status_0 : List UInt8 := [27, 3, 8, 184, 0, 185, 153, 0, 12, 42, 180, 0, 64, 27, 46, 167, 0, 4, 2, 172]
abbrev dktX0_status_0 : List UInt8 := dkwX0_status_0 ++ []
theorem dksX0_status_0 : cX0_status.data.toList.drop 0 = dktX0_status_0 := by decide +kernel
theorem dX0_status_0 : decode cX0_status 0 = .ok (.iload_n 1, 1) := dk_27 (dk_at dksX0_status_0 0 rfl rfl)
theorem dX0_status_1 : decode cX0_status 1 = .ok (.iconst 0, 1) := dk_3 (dk_at dksX0_status_0 1 rfl rfl)
theorem dX0_status_2 : decode cX0_status 2 = .ok (.iconst 5, 1) := dk_8 (dk_at dksX0_status_0 2 rfl rfl)
theorem dX0_status_3 : decode cX0_status 3 = .ok (.invokestatic 185, 3) := dk_184 0 185 (dk_at dksX0_status_0 3 rfl rfl)
theorem dX0_status_6 : decode cX0_status 6 = .ok (.ifCond .eq 12, 3) := dk_153 0 12 (dk_at dksX0_status_0 6 rfl rfl)
theorem dX0_status_9 : decode cX0_status 9 = .ok (.aload_n 0, 1) := dk_42 (dk_at dksX0_status_0 9 rfl rfl)
theorem dX0_status_10 : decode cX0_status 10 = .ok (.getfield 64, 3) := dk_180 0 64 (dk_at dksX0_status_0 10 rfl rfl)
theorem dX0_status_13 : decode cX0_status 13 = .ok (.iload_n 1, 1) := dk_27 (dk_at dksX0_status_0 13 rfl rfl)
theorem dX0_status_14 : decode cX0_status 14 = .ok (.iaload, 1) := dk_46 (dk_at dksX0_status_0 14 rfl rfl)
theorem dX0_status_15 : decode cX0_status 15 = .ok (.goto 4, 3) := dk_167 0 4 (dk_at dksX0_status_0 15 rfl rfl)
theorem dX0_status_18 : decode cX0_status 18 = .ok (.iconst (-1), 1) := dk_2 (dk_at dksX0_status_0 18 rfl rfl)
theorem dX0_status_19 : decode cX0_status 19 = .ok (.ireturn, 1) := dk_172 (dk_at dksX0_status_0 19 rfl rfl)
theorem q167 : (Jvm.Cond.initialized "FourOnOne") ∈ lw_all := lw_g (lw_at lw_m1 1 rfl) rfl
theorem q208 : (Jvm.Cond.instantiable "FourOnOne" (22 : Nat)) ∈ lw_all := lw_g (lw_at lw_m1 42 rfl) rfl
theorem q210 : (Jvm.Cond.instanceMethod ({ cls := "FourOnOne", name := "<init>", desc := "()V" } : Jvm.MethodName)) ∈ lw_all := lw_g (lw_at lw_m1 44 rfl) rfl
theorem q211 : (Jvm.Cond.code ({ cls := "FourOnOne", name := "<init>", desc := "()V" } : Jvm.MethodName) prog_1_method_7_code (2 : Nat) (Option.none : Option Jvm.ClassFile.FieldType)) ∈ lw_all := lw_g (lw_at lw_m1 45 rfl) rfl
theorem q212 : (Jvm.Cond.methodLink "FourOnOne" (24 : Nat) ({ cls := "java/lang/Object", name := "<init>", desc := "()V" } : Jvm.MethodName)) ∈ lw_all := lw_g (lw_at lw_m1 46 rfl) rfl
theorem q215 : (Jvm.Cond.classLink "FourOnOne" (30 : Nat) "FourOnOne$House") ∈ lw_all := lw_g (lw_at lw_m1 49 rfl) rfl
theorem q217 : (Jvm.Cond.methodLinkNest "FourOnOne" (32 : Nat) ({ cls := "FourOnOne$House", name := "<init>", desc := "()V" } : Jvm.MethodName) "FourOnOne") ∈ lw_tbl := lw_at lw_m1 51 rfl
theorem q249 : (Jvm.Cond.fieldLinkNest "FourOnOne" (143 : Nat) "FourOnOne$House" "statements" "I" "FourOnOne") ∈ lw_tbl := lw_at lw_m1 83 rfl
theorem q256 : (Jvm.Cond.fieldLinkNest "FourOnOne" (198 : Nat) "FourOnOne$House" "screens" "I" "FourOnOne") ∈ lw_tbl := lw_at lw_m1 90 rfl
theorem q258 : (Jvm.Cond.fieldLinkNest "FourOnOne" (313 : Nat) "FourOnOne$House" "price" "I" "FourOnOne") ∈ lw_tbl := lw_at lw_m1 92 rfl
theorem q262 : (Jvm.Cond.fieldLinkNest "FourOnOne" (343 : Nat) "FourOnOne$House" "strange" "I" "FourOnOne") ∈ lw_tbl := lw_at lw_m1 96 rfl
theorem q264 : (Jvm.Cond.fieldLinkNest "FourOnOne" (146 : Nat) "FourOnOne$House" "kinds" "Ljava/util/List;" "FourOnOne") ∈ lw_tbl := lw_at lw_m1 98 rfl
theorem q267 : (Jvm.Cond.fieldLinkNest "FourOnOne" (155 : Nat) "FourOnOne$House" "films" "Ljava/util/List;" "FourOnOne") ∈ lw_tbl := lw_at lw_m1 101 rfl
theorem q270 : (Jvm.Cond.fieldLinkNest "FourOnOne" (158 : Nat) "FourOnOne$House" "people" "Ljava/util/List;" "FourOnOne") ∈ lw_tbl := lw_at lw_m1 104 rfl
theorem q303 : (Jvm.Cond.classLink "FourOnOne" (45 : Nat) "FourOnOne$Reader") ∈ lw_all := lw_g (lw_at lw_m1 137 rfl) rfl
theorem q305 : (Jvm.Cond.methodLinkNest "FourOnOne" (47 : Nat) ({ cls := "FourOnOne$Reader", name := "<init>", desc := "(LFourOnOne;)V" } : Jvm.MethodName) "FourOnOne") ∈ lw_tbl := lw_at lw_m1 139 rfl
theorem q361 : (Jvm.Cond.fieldLinkNest "FourOnOne" (128 : Nat) "FourOnOne$Fault" "kind" "I" "FourOnOne") ∈ lw_tbl := lw_at lw_m1 195 rfl
theorem q363 : (Jvm.Cond.fieldLinkNest "FourOnOne" (131 : Nat) "FourOnOne$Fault" "place" "I" "FourOnOne") ∈ lw_tbl := lw_at lw_m1 197 rfl
theorem q407 : (Jvm.Cond.classLink "FourOnOne" (54 : Nat) "FourOnOne$Moment") ∈ lw_all := lw_g (lw_at lw_m2 1 rfl) rfl
theorem q409 : (Jvm.Cond.methodLinkNest "FourOnOne" (56 : Nat) ({ cls := "FourOnOne$Moment", name := "<init>", desc := "()V" } : Jvm.MethodName) "FourOnOne") ∈ lw_tbl := lw_at lw_m2 3 rfl
theorem q416 : (Jvm.Cond.fieldLinkNest "FourOnOne" (356 : Nat) "FourOnOne$Moment" "of" "[J" "FourOnOne") ∈ lw_tbl := lw_at lw_m2 10 rfl
theorem q421 : (Jvm.Cond.classLink "FourOnOne" (68 : Nat) "FourOnOne$State") ∈ lw_all := lw_g (lw_at lw_m2 15 rfl) rfl
theorem q423 : (Jvm.Cond.methodLinkNest "FourOnOne" (70 : Nat) ({ cls := "FourOnOne$State", name := "<init>", desc := "(LFourOnOne;)V" } : Jvm.MethodName) "FourOnOne") ∈ lw_tbl := lw_at lw_m2 17 rfl
theorem q430 : (Jvm.Cond.fieldLinkNest "FourOnOne" (201 : Nat) "FourOnOne$State" "hour" "I" "FourOnOne") ∈ lw_tbl := lw_at lw_m2 24 rfl
theorem q432 : (Jvm.Cond.fieldLinkNest "FourOnOne" (204 : Nat) "FourOnOne$State" "presses" "I" "FourOnOne") ∈ lw_tbl := lw_at lw_m2 26 rfl
theorem q434 : (Jvm.Cond.fieldLinkNest "FourOnOne" (215 : Nat) "FourOnOne$State" "keeps" "I" "FourOnOne") ∈ lw_tbl := lw_at lw_m2 28 rfl
theorem q436 : (Jvm.Cond.fieldLinkNest "FourOnOne" (243 : Nat) "FourOnOne$State" "taste" "[[I" "FourOnOne") ∈ lw_tbl := lw_at lw_m2 30 rfl
theorem q438 : (Jvm.Cond.fieldLinkNest "FourOnOne" (247 : Nat) "FourOnOne$State" "seen" "[[I" "FourOnOne") ∈ lw_tbl := lw_at lw_m2 32 rfl
theorem q440 : (Jvm.Cond.fieldLinkNest "FourOnOne" (218 : Nat) "FourOnOne$State" "saw" "[I" "FourOnOne") ∈ lw_tbl := lw_at lw_m2 34 rfl
theorem q442 : (Jvm.Cond.fieldLinkNest "FourOnOne" (257 : Nat) "FourOnOne$State" "rows" "[[I" "FourOnOne") ∈ lw_tbl := lw_at lw_m2 36 rfl
theorem q444 : (Jvm.Cond.fieldLinkNest "FourOnOne" (270 : Nat) "FourOnOne$State" "pleased" "[J" "FourOnOne") ∈ lw_tbl := lw_at lw_m2 38 rfl
theorem q446 : (Jvm.Cond.fieldLinkNest "FourOnOne" (276 : Nat) "FourOnOne$State" "refused" "[I" "FourOnOne") ∈ lw_tbl := lw_at lw_m2 40 rfl
theorem q448 : (Jvm.Cond.fieldLinkNest "FourOnOne" (324 : Nat) "FourOnOne$State" "seenNow" "I" "FourOnOne") ∈ lw_tbl := lw_at lw_m2 42 rfl
theorem q474 : (Jvm.Cond.classLink "FourOnOne" (78 : Nat) "[[J") ∈ lw_all := lw_g (lw_at lw_m2 68 rfl) rfl
theorem q478 : (Jvm.Cond.fieldLink "FourOnOne" (33 : Nat) "FourOnOne" "house" "LFourOnOne$House;") ∈ lw_all := lw_g (lw_at lw_m2 72 rfl) rfl
theorem q480 : (Jvm.Cond.fieldLink "FourOnOne" (37 : Nat) "FourOnOne" "tape" "[B") ∈ lw_all := lw_g (lw_at lw_m2 74 rfl) rfl
theorem q481 : (Jvm.Cond.fieldLink "FourOnOne" (104 : Nat) "FourOnOne" "taped" "I") ∈ lw_all := lw_g (lw_at lw_m2 75 rfl) rfl
theorem q482 : (Jvm.Cond.fieldLink "FourOnOne" (115 : Nat) "FourOnOne" "faultKind" "I") ∈ lw_all := lw_g (lw_at lw_m2 76 rfl) rfl
theorem q483 : (Jvm.Cond.fieldLink "FourOnOne" (41 : Nat) "FourOnOne" "faultPlace" "I") ∈ lw_all := lw_g (lw_at lw_m2 77 rfl) rfl
theorem q484 : (Jvm.Cond.fieldLink "FourOnOne" (50 : Nat) "FourOnOne" "reader" "LFourOnOne$Reader;") ∈ lw_all := lw_g (lw_at lw_m2 78 rfl) rfl
theorem q486 : (Jvm.Cond.fieldLink "FourOnOne" (57 : Nat) "FourOnOne" "moment" "LFourOnOne$Moment;") ∈ lw_all := lw_g (lw_at lw_m2 80 rfl) rfl
theorem q487 : (Jvm.Cond.fieldLink "FourOnOne" (61 : Nat) "FourOnOne" "asked" "LFourOnOne$Moment;") ∈ lw_all := lw_g (lw_at lw_m2 81 rfl) rfl
theorem q488 : (Jvm.Cond.fieldLink "FourOnOne" (64 : Nat) "FourOnOne" "refusals" "[I") ∈ lw_all := lw_g (lw_at lw_m2 82 rfl) rfl
theorem q489 : (Jvm.Cond.fieldLink "FourOnOne" (71 : Nat) "FourOnOne" "now" "LFourOnOne$State;") ∈ lw_all := lw_g (lw_at lw_m2 83 rfl) rfl
theorem q490 : (Jvm.Cond.fieldLink "FourOnOne" (75 : Nat) "FourOnOne" "tried" "LFourOnOne$State;") ∈ lw_all := lw_g (lw_at lw_m2 84 rfl) rfl
theorem q491 : (Jvm.Cond.fieldLink "FourOnOne" (80 : Nat) "FourOnOne" "bySet" "[[J") ∈ lw_all := lw_g (lw_at lw_m2 85 rfl) rfl
theorem q492 : (Jvm.Cond.fieldLink "FourOnOne" (83 : Nat) "FourOnOne" "rowHour" "[I") ∈ lw_all := lw_g (lw_at lw_m2 86 rfl) rfl
theorem q493 : (Jvm.Cond.fieldLink "FourOnOne" (86 : Nat) "FourOnOne" "rowFilm" "[I") ∈ lw_all := lw_g (lw_at lw_m2 87 rfl) rfl
theorem q494 : (Jvm.Cond.fieldLink "FourOnOne" (89 : Nat) "FourOnOne" "rowSeen" "[Z") ∈ lw_all := lw_g (lw_at lw_m2 88 rfl) rfl
theorem q495 : (Jvm.Cond.fieldLink "FourOnOne" (140 : Nat) "FourOnOne" "rows" "I") ∈ lw_all := lw_g (lw_at lw_m2 89 rfl) rfl
theorem q496 : (Jvm.Cond.fieldLink "FourOnOne" (93 : Nat) "FourOnOne" "kept" "[LFourOnOne$State;") ∈ lw_all := lw_g (lw_at lw_m2 90 rfl) rfl
theorem q497 : (Jvm.Cond.fieldLink "FourOnOne" (137 : Nat) "FourOnOne" "undos" "I") ∈ lw_all := lw_g (lw_at lw_m2 91 rfl) rfl
theorem q498 : (Jvm.Cond.fieldLink "FourOnOne" (97 : Nat) "FourOnOne" "seeds" "J") ∈ lw_all := lw_g (lw_at lw_m2 92 rfl) rfl
theorem q499 : (Jvm.Cond.fieldLink "FourOnOne" (349 : Nat) "FourOnOne" "askedFilm" "I") ∈ lw_all := lw_g (lw_at lw_m2 93 rfl) rfl
theorem q500 : (Jvm.Cond.fieldLink "FourOnOne" (101 : Nat) "FourOnOne" "out" "[B") ∈ lw_all := lw_g (lw_at lw_m2 94 rfl) rfl
theorem q501 : (Jvm.Cond.fieldLink "FourOnOne" (372 : Nat) "FourOnOne" "outs" "I") ∈ lw_all := lw_g (lw_at lw_m2 95 rfl) rfl
theorem q502 : (Jvm.Cond.lays "FourOnOne" "FourOnOne" "house" "LFourOnOne$House;") ∈ lw_all := lw_g (lw_at lw_m2 96 rfl) rfl
theorem q503 : (Jvm.Cond.soleField "FourOnOne" "house") ∈ lw_all := lw_g (lw_at lw_m2 97 rfl) rfl
theorem q504 : (Jvm.Cond.laysFinal "FourOnOne" "FourOnOne" "tape" "[B") ∈ lw_all := lw_g (lw_at lw_m2 98 rfl) rfl
theorem q505 : (Jvm.Cond.soleField "FourOnOne" "tape") ∈ lw_all := lw_g (lw_at lw_m2 99 rfl) rfl
theorem q506 : (Jvm.Cond.lays "FourOnOne" "FourOnOne" "taped" "I") ∈ lw_all := lw_g (lw_at lw_m2 100 rfl) rfl
theorem q507 : (Jvm.Cond.soleField "FourOnOne" "taped") ∈ lw_all := lw_g (lw_at lw_m2 101 rfl) rfl
theorem q508 : (Jvm.Cond.lays "FourOnOne" "FourOnOne" "faultKind" "I") ∈ lw_all := lw_g (lw_at lw_m2 102 rfl) rfl
theorem q509 : (Jvm.Cond.soleField "FourOnOne" "faultKind") ∈ lw_all := lw_g (lw_at lw_m2 103 rfl) rfl
theorem q510 : (Jvm.Cond.lays "FourOnOne" "FourOnOne" "faultPlace" "I") ∈ lw_all := lw_g (lw_at lw_m2 104 rfl) rfl
theorem q511 : (Jvm.Cond.soleField "FourOnOne" "faultPlace") ∈ lw_all := lw_g (lw_at lw_m2 105 rfl) rfl
theorem q512 : (Jvm.Cond.laysFinal "FourOnOne" "FourOnOne" "reader" "LFourOnOne$Reader;") ∈ lw_all := lw_g (lw_at lw_m2 106 rfl) rfl
theorem q513 : (Jvm.Cond.soleField "FourOnOne" "reader") ∈ lw_all := lw_g (lw_at lw_m2 107 rfl) rfl
theorem q514 : (Jvm.Cond.laysFinal "FourOnOne" "FourOnOne" "moment" "LFourOnOne$Moment;") ∈ lw_all := lw_g (lw_at lw_m2 108 rfl) rfl
theorem q515 : (Jvm.Cond.soleField "FourOnOne" "moment") ∈ lw_all := lw_g (lw_at lw_m2 109 rfl) rfl
theorem q516 : (Jvm.Cond.laysFinal "FourOnOne" "FourOnOne" "asked" "LFourOnOne$Moment;") ∈ lw_all := lw_g (lw_at lw_m2 110 rfl) rfl
theorem q517 : (Jvm.Cond.soleField "FourOnOne" "asked") ∈ lw_all := lw_g (lw_at lw_m2 111 rfl) rfl
theorem q518 : (Jvm.Cond.laysFinal "FourOnOne" "FourOnOne" "refusals" "[I") ∈ lw_all := lw_g (lw_at lw_m2 112 rfl) rfl
theorem q519 : (Jvm.Cond.soleField "FourOnOne" "refusals") ∈ lw_all := lw_g (lw_at lw_m2 113 rfl) rfl
theorem q520 : (Jvm.Cond.laysFinal "FourOnOne" "FourOnOne" "now" "LFourOnOne$State;") ∈ lw_all := lw_g (lw_at lw_m2 114 rfl) rfl
theorem q521 : (Jvm.Cond.soleField "FourOnOne" "now") ∈ lw_all := lw_g (lw_at lw_m2 115 rfl) rfl
theorem q522 : (Jvm.Cond.laysFinal "FourOnOne" "FourOnOne" "tried" "LFourOnOne$State;") ∈ lw_all := lw_g (lw_at lw_m2 116 rfl) rfl
theorem q523 : (Jvm.Cond.soleField "FourOnOne" "tried") ∈ lw_all := lw_g (lw_at lw_m2 117 rfl) rfl
theorem q524 : (Jvm.Cond.laysFinal "FourOnOne" "FourOnOne" "bySet" "[[J") ∈ lw_all := lw_g (lw_at lw_m2 118 rfl) rfl
theorem q525 : (Jvm.Cond.soleField "FourOnOne" "bySet") ∈ lw_all := lw_g (lw_at lw_m2 119 rfl) rfl
theorem q526 : (Jvm.Cond.laysFinal "FourOnOne" "FourOnOne" "rowHour" "[I") ∈ lw_all := lw_g (lw_at lw_m2 120 rfl) rfl
theorem q527 : (Jvm.Cond.soleField "FourOnOne" "rowHour") ∈ lw_all := lw_g (lw_at lw_m2 121 rfl) rfl
theorem q528 : (Jvm.Cond.laysFinal "FourOnOne" "FourOnOne" "rowFilm" "[I") ∈ lw_all := lw_g (lw_at lw_m2 122 rfl) rfl
theorem q529 : (Jvm.Cond.soleField "FourOnOne" "rowFilm") ∈ lw_all := lw_g (lw_at lw_m2 123 rfl) rfl
theorem q530 : (Jvm.Cond.laysFinal "FourOnOne" "FourOnOne" "rowSeen" "[Z") ∈ lw_all := lw_g (lw_at lw_m2 124 rfl) rfl
theorem q531 : (Jvm.Cond.soleField "FourOnOne" "rowSeen") ∈ lw_all := lw_g (lw_at lw_m2 125 rfl) rfl
theorem q532 : (Jvm.Cond.lays "FourOnOne" "FourOnOne" "rows" "I") ∈ lw_all := lw_g (lw_at lw_m2 126 rfl) rfl
theorem q533 : (Jvm.Cond.soleField "FourOnOne" "rows") ∈ lw_all := lw_g (lw_at lw_m2 127 rfl) rfl
theorem q534 : (Jvm.Cond.laysFinal "FourOnOne" "FourOnOne" "kept" "[LFourOnOne$State;") ∈ lw_all := lw_g (lw_at lw_m2 128 rfl) rfl
theorem q535 : (Jvm.Cond.soleField "FourOnOne" "kept") ∈ lw_all := lw_g (lw_at lw_m2 129 rfl) rfl
theorem q536 : (Jvm.Cond.lays "FourOnOne" "FourOnOne" "undos" "I") ∈ lw_all := lw_g (lw_at lw_m2 130 rfl) rfl
theorem q537 : (Jvm.Cond.soleField "FourOnOne" "undos") ∈ lw_all := lw_g (lw_at lw_m2 131 rfl) rfl
theorem q538 : (Jvm.Cond.lays "FourOnOne" "FourOnOne" "seeds" "J") ∈ lw_all := lw_g (lw_at lw_m2 132 rfl) rfl
theorem q539 : (Jvm.Cond.soleField "FourOnOne" "seeds") ∈ lw_all := lw_g (lw_at lw_m2 133 rfl) rfl
theorem q540 : (Jvm.Cond.lays "FourOnOne" "FourOnOne" "askedFilm" "I") ∈ lw_all := lw_g (lw_at lw_m2 134 rfl) rfl
theorem q541 : (Jvm.Cond.soleField "FourOnOne" "askedFilm") ∈ lw_all := lw_g (lw_at lw_m2 135 rfl) rfl
theorem q542 : (Jvm.Cond.laysFinal "FourOnOne" "FourOnOne" "out" "[B") ∈ lw_all := lw_g (lw_at lw_m2 136 rfl) rfl
theorem q543 : (Jvm.Cond.soleField "FourOnOne" "out") ∈ lw_all := lw_g (lw_at lw_m2 137 rfl) rfl
theorem q544 : (Jvm.Cond.lays "FourOnOne" "FourOnOne" "outs" "I") ∈ lw_all := lw_g (lw_at lw_m2 138 rfl) rfl
theorem q545 : (Jvm.Cond.soleField "FourOnOne" "outs") ∈ lw_all := lw_g (lw_at lw_m2 139 rfl) rfl
theorem q546 : (Jvm.Cond.superclass "FourOnOne" "java/lang/Object") ∈ lw_all := lw_g (lw_at lw_m2 140 rfl) rfl
theorem q549 : (Jvm.Cond.instanceMethod ({ cls := "FourOnOne", name := "feed", desc := "(IIIII)I" } : Jvm.MethodName)) ∈ lw_all := lw_g (lw_at lw_m2 143 rfl) rfl
theorem q550 : (Jvm.Cond.selects "FourOnOne" ({ cls := "FourOnOne", name := "feed", desc := "(IIIII)I" } : Jvm.MethodName) ({ cls := "FourOnOne", name := "feed", desc := "(IIIII)I" } : Jvm.MethodName)) ∈ lw_all := lw_g (lw_at lw_m2 144 rfl) rfl
theorem q551 : (Jvm.Cond.code ({ cls := "FourOnOne", name := "feed", desc := "(IIIII)I" } : Jvm.MethodName) prog_1_method_10_code (6 : Nat) (Option.some Jvm.ClassFile.FieldType.int)) ∈ lw_all := lw_g (lw_at lw_m2 145 rfl) rfl
theorem q552 : (Jvm.Cond.methodLink "FourOnOne" (107 : Nat) ({ cls := "FourOnOne", name := "refuses", desc := "(I)I" } : Jvm.MethodName)) ∈ lw_all := lw_g (lw_at lw_m2 146 rfl) rfl
theorem q553 : (Jvm.Cond.privateMethod ({ cls := "FourOnOne", name := "refuses", desc := "(I)I" } : Jvm.MethodName)) ∈ lw_tbl := lw_at lw_m2 147 rfl
theorem q554 : (Jvm.Cond.instanceMethod ({ cls := "FourOnOne", name := "refuses", desc := "(I)I" } : Jvm.MethodName)) ∈ lw_all := lw_g (lw_at lw_m2 148 rfl) rfl
theorem q555 : (Jvm.Cond.code ({ cls := "FourOnOne", name := "refuses", desc := "(I)I" } : Jvm.MethodName) prog_1_method_8_code (2 : Nat) (Option.some Jvm.ClassFile.FieldType.int)) ∈ lw_all := lw_g (lw_at lw_m2 149 rfl) rfl
theorem q556 : (Jvm.Cond.methodLink "FourOnOne" (111 : Nat) ({ cls := "FourOnOne", name := "put", desc := "(I)V" } : Jvm.MethodName)) ∈ lw_all := lw_g (lw_at lw_m2 150 rfl) rfl
theorem q557 : (Jvm.Cond.privateMethod ({ cls := "FourOnOne", name := "put", desc := "(I)V" } : Jvm.MethodName)) ∈ lw_tbl := lw_at lw_m2 151 rfl
theorem q558 : (Jvm.Cond.instanceMethod ({ cls := "FourOnOne", name := "put", desc := "(I)V" } : Jvm.MethodName)) ∈ lw_all := lw_g (lw_at lw_m2 152 rfl) rfl
theorem q559 : (Jvm.Cond.code ({ cls := "FourOnOne", name := "put", desc := "(I)V" } : Jvm.MethodName) prog_1_method_9_code (3 : Nat) (Option.none : Option Jvm.ClassFile.FieldType)) ∈ lw_all := lw_g (lw_at lw_m2 153 rfl) rfl
theorem q561 : (Jvm.Cond.instanceMethod ({ cls := "FourOnOne", name := "end", desc := "(I)Z" } : Jvm.MethodName)) ∈ lw_all := lw_g (lw_at lw_m2 155 rfl) rfl
theorem q562 : (Jvm.Cond.selects "FourOnOne" ({ cls := "FourOnOne", name := "end", desc := "(I)Z" } : Jvm.MethodName) ({ cls := "FourOnOne", name := "end", desc := "(I)Z" } : Jvm.MethodName)) ∈ lw_all := lw_g (lw_at lw_m2 156 rfl) rfl
theorem q563 : (Jvm.Cond.code ({ cls := "FourOnOne", name := "end", desc := "(I)Z" } : Jvm.MethodName) prog_1_method_11_code (2 : Nat) (Option.some Jvm.ClassFile.FieldType.boolean)) ∈ lw_all := lw_g (lw_at lw_m2 157 rfl) rfl
theorem q565 : (Jvm.Cond.instanceMethod ({ cls := "FourOnOne", name := "house", desc := "()I" } : Jvm.MethodName)) ∈ lw_all := lw_g (lw_at lw_m2 159 rfl) rfl
theorem q566 : (Jvm.Cond.selects "FourOnOne" ({ cls := "FourOnOne", name := "house", desc := "()I" } : Jvm.MethodName) ({ cls := "FourOnOne", name := "house", desc := "()I" } : Jvm.MethodName)) ∈ lw_all := lw_g (lw_at lw_m2 160 rfl) rfl
theorem q567 : (Jvm.Cond.codeWith ({ cls := "FourOnOne", name := "house", desc := "()I" } : Jvm.MethodName) prog_1_method_13_code (2 : Nat) (Option.some Jvm.ClassFile.FieldType.int) [((10 : Nat), (25 : Nat), (28 : Nat), (126 : Nat))]) ∈ lw_all := lw_g (lw_at lw_m2 161 rfl) rfl
theorem q568 : (Jvm.Cond.classLink "FourOnOne" (126 : Nat) "FourOnOne$Fault") ∈ lw_all := lw_g (lw_at lw_m2 162 rfl) rfl
theorem q569 : (Jvm.Cond.methodLink "FourOnOne" (118 : Nat) ({ cls := "FourOnOne", name := "taken", desc := "()I" } : Jvm.MethodName)) ∈ lw_all := lw_g (lw_at lw_m2 163 rfl) rfl
theorem q570 : (Jvm.Cond.privateMethod ({ cls := "FourOnOne", name := "taken", desc := "()I" } : Jvm.MethodName)) ∈ lw_tbl := lw_at lw_m2 164 rfl
theorem q571 : (Jvm.Cond.instanceMethod ({ cls := "FourOnOne", name := "taken", desc := "()I" } : Jvm.MethodName)) ∈ lw_all := lw_g (lw_at lw_m2 165 rfl) rfl
theorem q572 : (Jvm.Cond.code ({ cls := "FourOnOne", name := "taken", desc := "()I" } : Jvm.MethodName) prog_1_method_12_code (2 : Nat) (Option.some Jvm.ClassFile.FieldType.int)) ∈ lw_all := lw_g (lw_at lw_m2 166 rfl) rfl
theorem q573 : (Jvm.Cond.methodLink "FourOnOne" (122 : Nat) ({ cls := "FourOnOne$Reader", name := "all", desc := "(I)LFourOnOne$House;" } : Jvm.MethodName)) ∈ lw_all := lw_g (lw_at lw_m2 167 rfl) rfl
theorem q600 : (Jvm.Cond.static ({ cls := "FourOnOne", name := "isLetter", desc := "(I)Z" } : Jvm.MethodName)) ∈ lw_all := lw_g (lw_at lw_m2 194 rfl) rfl
theorem q601 : (Jvm.Cond.code ({ cls := "FourOnOne", name := "isLetter", desc := "(I)Z" } : Jvm.MethodName) prog_1_method_4_code (1 : Nat) (Option.some Jvm.ClassFile.FieldType.boolean)) ∈ lw_all := lw_g (lw_at lw_m2 195 rfl) rfl
theorem q607 : (Jvm.Cond.static ({ cls := "FourOnOne", name := "isDigit", desc := "(I)Z" } : Jvm.MethodName)) ∈ lw_all := lw_g (lw_at lw_m2 201 rfl) rfl
theorem q608 : (Jvm.Cond.code ({ cls := "FourOnOne", name := "isDigit", desc := "(I)Z" } : Jvm.MethodName) prog_1_method_5_code (1 : Nat) (Option.some Jvm.ClassFile.FieldType.boolean)) ∈ lw_all := lw_g (lw_at lw_m2 202 rfl) rfl
theorem q777 : (Jvm.Cond.laysStatic "FourOnOne" "OWN" "[Ljava/lang/String;") ∈ lw_tbl := lw_at lw_m3 131 rfl
theorem q779 : (Jvm.Cond.static ({ cls := "FourOnOne", name := "find", desc := "(Ljava/lang/String;[Ljava/lang/String;)I" } : Jvm.MethodName)) ∈ lw_all := lw_g (lw_at lw_m3 133 rfl) rfl
theorem q780 : (Jvm.Cond.code ({ cls := "FourOnOne", name := "find", desc := "(Ljava/lang/String;[Ljava/lang/String;)I" } : Jvm.MethodName) prog_1_method_6_code (3 : Nat) (Option.some Jvm.ClassFile.FieldType.int)) ∈ lw_all := lw_g (lw_at lw_m3 134 rfl) rfl
theorem q781 : (Jvm.Cond.methodLink "FourOnOne" (18 : Nat) ({ cls := "java/lang/String", name := "equals", desc := "(Ljava/lang/Object;)Z" } : Jvm.MethodName)) ∈ lw_all := lw_g (lw_at lw_m3 135 rfl) rfl
theorem q867 : (Jvm.Cond.selects "FourOnOne" ({ cls := "java/lang/Object", name := "getClass", desc := "()Ljava/lang/Class;" } : Jvm.MethodName) ({ cls := "java/lang/Object", name := "getClass", desc := "()Ljava/lang/Class;" } : Jvm.MethodName)) ∈ lw_all := lw_g (lw_at lw_m3 221 rfl) rfl
theorem q924 : (Jvm.Cond.static ({ cls := "FourOnOne", name := "is", desc := "(III)Z" } : Jvm.MethodName)) ∈ lw_all := lw_g (lw_at lw_m4 38 rfl) rfl
theorem q925 : (Jvm.Cond.code ({ cls := "FourOnOne", name := "is", desc := "(III)Z" } : Jvm.MethodName) prog_1_method_1_code (3 : Nat) (Option.some Jvm.ClassFile.FieldType.boolean)) ∈ lw_all := lw_g (lw_at lw_m4 39 rfl) rfl
theorem q932 : (Jvm.Cond.fieldLinkNest "FourOnOne" (230 : Nat) "FourOnOne$Film" "parts" "I" "FourOnOne") ∈ lw_tbl := lw_at lw_m4 46 rfl
theorem q936 : (Jvm.Cond.fieldLinkNest "FourOnOne" (193 : Nat) "FourOnOne$Film" "is" "[I" "FourOnOne") ∈ lw_tbl := lw_at lw_m4 50 rfl
theorem q958 : (Jvm.Cond.fieldLinkNest "FourOnOne" (179 : Nat) "FourOnOne$Person" "from" "I" "FourOnOne") ∈ lw_tbl := lw_at lw_m4 72 rfl
theorem q960 : (Jvm.Cond.fieldLinkNest "FourOnOne" (182 : Nat) "FourOnOne$Person" "to" "I" "FourOnOne") ∈ lw_tbl := lw_at lw_m4 74 rfl
theorem q963 : (Jvm.Cond.fieldLinkNest "FourOnOne" (195 : Nat) "FourOnOne$Person" "likes" "[I" "FourOnOne") ∈ lw_tbl := lw_at lw_m4 77 rfl
theorem q975 : (Jvm.Cond.static ({ cls := "FourOnOne", name := "has", desc := "(II)Z" } : Jvm.MethodName)) ∈ lw_all := lw_g (lw_at lw_m4 89 rfl) rfl
theorem q976 : (Jvm.Cond.code ({ cls := "FourOnOne", name := "has", desc := "(II)Z" } : Jvm.MethodName) prog_1_method_2_code (2 : Nat) (Option.some Jvm.ClassFile.FieldType.boolean)) ∈ lw_all := lw_g (lw_at lw_m4 90 rfl) rfl
theorem q1084 : (Jvm.Cond.laysStatic "FourOnOne" "ASKED" "[Ljava/lang/String;") ∈ lw_tbl := lw_at lw_m4 198 rfl
theorem q1096 : (Jvm.Cond.laysStatic "FourOnOne" "LOOKED" "[Ljava/lang/String;") ∈ lw_tbl := lw_at lw_m4 210 rfl
theorem q1256 : (Jvm.Cond.methodLink "FourOnOne" (134 : Nat) ({ cls := "FourOnOne$State", name := "begins", desc := "()V" } : Jvm.MethodName)) ∈ lw_all := lw_g (lw_at lw_m5 130 rfl) rfl
theorem q1261 : (Jvm.Cond.instanceMethod ({ cls := "FourOnOne", name := "fault", desc := "(I)I" } : Jvm.MethodName)) ∈ lw_all := lw_g (lw_at lw_m5 135 rfl) rfl
theorem q1262 : (Jvm.Cond.selects "FourOnOne" ({ cls := "FourOnOne", name := "fault", desc := "(I)I" } : Jvm.MethodName) ({ cls := "FourOnOne", name := "fault", desc := "(I)I" } : Jvm.MethodName)) ∈ lw_all := lw_g (lw_at lw_m5 136 rfl) rfl
theorem q1263 : (Jvm.Cond.code ({ cls := "FourOnOne", name := "fault", desc := "(I)I" } : Jvm.MethodName) prog_1_method_14_code (2 : Nat) (Option.some Jvm.ClassFile.FieldType.int)) ∈ lw_all := lw_g (lw_at lw_m5 137 rfl) rfl
theorem q1265 : (Jvm.Cond.instanceMethod ({ cls := "FourOnOne", name := "has", desc := "(I)I" } : Jvm.MethodName)) ∈ lw_all := lw_g (lw_at lw_m5 139 rfl) rfl
theorem q1266 : (Jvm.Cond.selects "FourOnOne" ({ cls := "FourOnOne", name := "has", desc := "(I)I" } : Jvm.MethodName) ({ cls := "FourOnOne", name := "has", desc := "(I)I" } : Jvm.MethodName)) ∈ lw_all := lw_g (lw_at lw_m5 140 rfl) rfl
theorem q1267 : (Jvm.Cond.code ({ cls := "FourOnOne", name := "has", desc := "(I)I" } : Jvm.MethodName) prog_1_method_25_code (2 : Nat) (Option.some Jvm.ClassFile.FieldType.int)) ∈ lw_all := lw_g (lw_at lw_m5 141 rfl) rfl
theorem q1268 : (Jvm.Cond.methodLink "FourOnOne" (161 : Nat) ({ cls := "FourOnOne", name := "kinds", desc := "()I" } : Jvm.MethodName)) ∈ lw_all := lw_g (lw_at lw_m5 142 rfl) rfl
theorem q1269 : (Jvm.Cond.privateMethod ({ cls := "FourOnOne", name := "kinds", desc := "()I" } : Jvm.MethodName)) ∈ lw_tbl := lw_at lw_m5 143 rfl
theorem q1270 : (Jvm.Cond.instanceMethod ({ cls := "FourOnOne", name := "kinds", desc := "()I" } : Jvm.MethodName)) ∈ lw_all := lw_g (lw_at lw_m5 144 rfl) rfl
theorem q1271 : (Jvm.Cond.code ({ cls := "FourOnOne", name := "kinds", desc := "()I" } : Jvm.MethodName) prog_1_method_15_code (1 : Nat) (Option.some Jvm.ClassFile.FieldType.int)) ∈ lw_all := lw_g (lw_at lw_m5 145 rfl) rfl
theorem q1272 : (Jvm.Cond.interfaceEntry "FourOnOne" (150 : Nat)) ∈ lw_tbl := lw_at lw_m5 146 rfl
theorem q1273 : (Jvm.Cond.methodLink "FourOnOne" (150 : Nat) ({ cls := "java/util/List", name := "size", desc := "()I" } : Jvm.MethodName)) ∈ lw_all := lw_g (lw_at lw_m5 147 rfl) rfl
theorem q1274 : (Jvm.Cond.methodLink "FourOnOne" (163 : Nat) ({ cls := "FourOnOne", name := "films", desc := "()I" } : Jvm.MethodName)) ∈ lw_all := lw_g (lw_at lw_m5 148 rfl) rfl
theorem q1275 : (Jvm.Cond.privateMethod ({ cls := "FourOnOne", name := "films", desc := "()I" } : Jvm.MethodName)) ∈ lw_tbl := lw_at lw_m5 149 rfl
theorem q1276 : (Jvm.Cond.instanceMethod ({ cls := "FourOnOne", name := "films", desc := "()I" } : Jvm.MethodName)) ∈ lw_all := lw_g (lw_at lw_m5 150 rfl) rfl
theorem q1277 : (Jvm.Cond.code ({ cls := "FourOnOne", name := "films", desc := "()I" } : Jvm.MethodName) prog_1_method_16_code (1 : Nat) (Option.some Jvm.ClassFile.FieldType.int)) ∈ lw_all := lw_g (lw_at lw_m5 151 rfl) rfl
theorem q1278 : (Jvm.Cond.methodLink "FourOnOne" (165 : Nat) ({ cls := "FourOnOne", name := "people", desc := "()I" } : Jvm.MethodName)) ∈ lw_all := lw_g (lw_at lw_m5 152 rfl) rfl
theorem q1279 : (Jvm.Cond.privateMethod ({ cls := "FourOnOne", name := "people", desc := "()I" } : Jvm.MethodName)) ∈ lw_tbl := lw_at lw_m5 153 rfl
theorem q1280 : (Jvm.Cond.instanceMethod ({ cls := "FourOnOne", name := "people", desc := "()I" } : Jvm.MethodName)) ∈ lw_all := lw_g (lw_at lw_m5 154 rfl) rfl
theorem q1281 : (Jvm.Cond.code ({ cls := "FourOnOne", name := "people", desc := "()I" } : Jvm.MethodName) prog_1_method_17_code (1 : Nat) (Option.some Jvm.ClassFile.FieldType.int)) ∈ lw_all := lw_g (lw_at lw_m5 155 rfl) rfl
theorem q1282 : (Jvm.Cond.methodLink "FourOnOne" (207 : Nat) ({ cls := "java/lang/Integer", name := "bitCount", desc := "(I)I" } : Jvm.MethodName)) ∈ lw_all := lw_g (lw_at lw_m5 156 rfl) rfl
theorem q1288 : (Jvm.Cond.methodLink "FourOnOne" (212 : Nat) ({ cls := "FourOnOne", name := "allSaw", desc := "()I" } : Jvm.MethodName)) ∈ lw_all := lw_g (lw_at lw_m5 162 rfl) rfl
theorem q1289 : (Jvm.Cond.privateMethod ({ cls := "FourOnOne", name := "allSaw", desc := "()I" } : Jvm.MethodName)) ∈ lw_tbl := lw_at lw_m5 163 rfl
theorem q1290 : (Jvm.Cond.instanceMethod ({ cls := "FourOnOne", name := "allSaw", desc := "()I" } : Jvm.MethodName)) ∈ lw_all := lw_g (lw_at lw_m5 164 rfl) rfl
theorem q1291 : (Jvm.Cond.code ({ cls := "FourOnOne", name := "allSaw", desc := "()I" } : Jvm.MethodName) prog_1_method_26_code (3 : Nat) (Option.some Jvm.ClassFile.FieldType.int)) ∈ lw_all := lw_g (lw_at lw_m5 165 rfl) rfl
theorem q1293 : (Jvm.Cond.instanceMethod ({ cls := "FourOnOne", name := "letter", desc := "(III)I" } : Jvm.MethodName)) ∈ lw_all := lw_g (lw_at lw_m5 167 rfl) rfl
theorem q1294 : (Jvm.Cond.selects "FourOnOne" ({ cls := "FourOnOne", name := "letter", desc := "(III)I" } : Jvm.MethodName) ({ cls := "FourOnOne", name := "letter", desc := "(III)I" } : Jvm.MethodName)) ∈ lw_all := lw_g (lw_at lw_m5 168 rfl) rfl
theorem q1295 : (Jvm.Cond.code ({ cls := "FourOnOne", name := "letter", desc := "(III)I" } : Jvm.MethodName) prog_1_method_27_code (5 : Nat) (Option.some Jvm.ClassFile.FieldType.int)) ∈ lw_all := lw_g (lw_at lw_m5 169 rfl) rfl
theorem q1296 : (Jvm.Cond.methodLink "FourOnOne" (185 : Nat) ({ cls := "FourOnOne", name := "is", desc := "(III)Z" } : Jvm.MethodName)) ∈ lw_all := lw_g (lw_at lw_m5 170 rfl) rfl
theorem q1297 : (Jvm.Cond.interfaceEntry "FourOnOne" (167 : Nat)) ∈ lw_tbl := lw_at lw_m5 171 rfl
theorem q1298 : (Jvm.Cond.methodLink "FourOnOne" (167 : Nat) ({ cls := "java/util/List", name := "get", desc := "(I)Ljava/lang/Object;" } : Jvm.MethodName)) ∈ lw_all := lw_g (lw_at lw_m5 172 rfl) rfl
theorem q1299 : (Jvm.Cond.classLink "FourOnOne" (221 : Nat) "FourOnOne$Named") ∈ lw_all := lw_g (lw_at lw_m5 173 rfl) rfl
theorem q1300 : (Jvm.Cond.methodLink "FourOnOne" (223 : Nat) ({ cls := "FourOnOne$Named", name := "letter", desc := "(I)I" } : Jvm.MethodName)) ∈ lw_all := lw_g (lw_at lw_m5 174 rfl) rfl
theorem q1320 : (Jvm.Cond.instanceMethod ({ cls := "FourOnOne", name := "film", desc := "(II)I" } : Jvm.MethodName)) ∈ lw_all := lw_g (lw_at lw_m5 194 rfl) rfl
theorem q1321 : (Jvm.Cond.selects "FourOnOne" ({ cls := "FourOnOne", name := "film", desc := "(II)I" } : Jvm.MethodName) ({ cls := "FourOnOne", name := "film", desc := "(II)I" } : Jvm.MethodName)) ∈ lw_all := lw_g (lw_at lw_m5 195 rfl) rfl
theorem q1322 : (Jvm.Cond.code ({ cls := "FourOnOne", name := "film", desc := "(II)I" } : Jvm.MethodName) prog_1_method_28_code (3 : Nat) (Option.some Jvm.ClassFile.FieldType.int)) ∈ lw_all := lw_g (lw_at lw_m5 196 rfl) rfl
theorem q1323 : (Jvm.Cond.methodLink "FourOnOne" (226 : Nat) ({ cls := "FourOnOne", name := "isFilm", desc := "(I)Z" } : Jvm.MethodName)) ∈ lw_all := lw_g (lw_at lw_m5 197 rfl) rfl
theorem q1324 : (Jvm.Cond.privateMethod ({ cls := "FourOnOne", name := "isFilm", desc := "(I)Z" } : Jvm.MethodName)) ∈ lw_tbl := lw_at lw_m5 198 rfl
theorem q1325 : (Jvm.Cond.instanceMethod ({ cls := "FourOnOne", name := "isFilm", desc := "(I)Z" } : Jvm.MethodName)) ∈ lw_all := lw_g (lw_at lw_m5 199 rfl) rfl
theorem q1326 : (Jvm.Cond.code ({ cls := "FourOnOne", name := "isFilm", desc := "(I)Z" } : Jvm.MethodName) prog_1_method_19_code (2 : Nat) (Option.some Jvm.ClassFile.FieldType.boolean)) ∈ lw_all := lw_g (lw_at lw_m5 200 rfl) rfl
theorem q1327 : (Jvm.Cond.methodLink "FourOnOne" (189 : Nat) ({ cls := "FourOnOne", name := "filmOf", desc := "(I)LFourOnOne$Film;" } : Jvm.MethodName)) ∈ lw_all := lw_g (lw_at lw_m5 201 rfl) rfl
theorem q1328 : (Jvm.Cond.privateMethod ({ cls := "FourOnOne", name := "filmOf", desc := "(I)LFourOnOne$Film;" } : Jvm.MethodName)) ∈ lw_tbl := lw_at lw_m5 202 rfl
theorem q1329 : (Jvm.Cond.instanceMethod ({ cls := "FourOnOne", name := "filmOf", desc := "(I)LFourOnOne$Film;" } : Jvm.MethodName)) ∈ lw_all := lw_g (lw_at lw_m5 203 rfl) rfl
theorem q1330 : (Jvm.Cond.code ({ cls := "FourOnOne", name := "filmOf", desc := "(I)LFourOnOne$Film;" } : Jvm.MethodName) prog_1_method_21_code (2 : Nat) (Option.some (Jvm.ClassFile.FieldType.object "FourOnOne$Film"))) ∈ lw_all := lw_g (lw_at lw_m5 204 rfl) rfl
theorem q1331 : (Jvm.Cond.classLink "FourOnOne" (171 : Nat) "FourOnOne$Film") ∈ lw_all := lw_g (lw_at lw_m5 205 rfl) rfl
theorem q1332 : (Jvm.Cond.methodLink "FourOnOne" (233 : Nat) ({ cls := "FourOnOne", name := "isKind", desc := "(I)Z" } : Jvm.MethodName)) ∈ lw_all := lw_g (lw_at lw_m5 206 rfl) rfl
theorem q1333 : (Jvm.Cond.privateMethod ({ cls := "FourOnOne", name := "isKind", desc := "(I)Z" } : Jvm.MethodName)) ∈ lw_tbl := lw_at lw_m5 207 rfl
theorem q1334 : (Jvm.Cond.instanceMethod ({ cls := "FourOnOne", name := "isKind", desc := "(I)Z" } : Jvm.MethodName)) ∈ lw_all := lw_g (lw_at lw_m5 208 rfl) rfl
theorem q1335 : (Jvm.Cond.code ({ cls := "FourOnOne", name := "isKind", desc := "(I)Z" } : Jvm.MethodName) prog_1_method_18_code (2 : Nat) (Option.some Jvm.ClassFile.FieldType.boolean)) ∈ lw_all := lw_g (lw_at lw_m5 209 rfl) rfl
theorem q1337 : (Jvm.Cond.instanceMethod ({ cls := "FourOnOne", name := "person", desc := "(II)I" } : Jvm.MethodName)) ∈ lw_all := lw_g (lw_at lw_m5 211 rfl) rfl
theorem q1338 : (Jvm.Cond.selects "FourOnOne" ({ cls := "FourOnOne", name := "person", desc := "(II)I" } : Jvm.MethodName) ({ cls := "FourOnOne", name := "person", desc := "(II)I" } : Jvm.MethodName)) ∈ lw_all := lw_g (lw_at lw_m5 212 rfl) rfl
theorem q1339 : (Jvm.Cond.code ({ cls := "FourOnOne", name := "person", desc := "(II)I" } : Jvm.MethodName) prog_1_method_29_code (3 : Nat) (Option.some Jvm.ClassFile.FieldType.int)) ∈ lw_all := lw_g (lw_at lw_m5 213 rfl) rfl
theorem q1340 : (Jvm.Cond.methodLink "FourOnOne" (236 : Nat) ({ cls := "FourOnOne", name := "isPerson", desc := "(I)Z" } : Jvm.MethodName)) ∈ lw_all := lw_g (lw_at lw_m5 214 rfl) rfl
theorem q1341 : (Jvm.Cond.privateMethod ({ cls := "FourOnOne", name := "isPerson", desc := "(I)Z" } : Jvm.MethodName)) ∈ lw_tbl := lw_at lw_m5 215 rfl
theorem q1342 : (Jvm.Cond.instanceMethod ({ cls := "FourOnOne", name := "isPerson", desc := "(I)Z" } : Jvm.MethodName)) ∈ lw_all := lw_g (lw_at lw_m5 216 rfl) rfl
theorem q1343 : (Jvm.Cond.code ({ cls := "FourOnOne", name := "isPerson", desc := "(I)Z" } : Jvm.MethodName) prog_1_method_20_code (2 : Nat) (Option.some Jvm.ClassFile.FieldType.boolean)) ∈ lw_all := lw_g (lw_at lw_m5 217 rfl) rfl
theorem q1344 : (Jvm.Cond.methodLink "FourOnOne" (175 : Nat) ({ cls := "FourOnOne", name := "personOf", desc := "(I)LFourOnOne$Person;" } : Jvm.MethodName)) ∈ lw_all := lw_g (lw_at lw_m5 218 rfl) rfl
theorem q1345 : (Jvm.Cond.privateMethod ({ cls := "FourOnOne", name := "personOf", desc := "(I)LFourOnOne$Person;" } : Jvm.MethodName)) ∈ lw_tbl := lw_at lw_m5 219 rfl
theorem q1346 : (Jvm.Cond.instanceMethod ({ cls := "FourOnOne", name := "personOf", desc := "(I)LFourOnOne$Person;" } : Jvm.MethodName)) ∈ lw_all := lw_g (lw_at lw_m5 220 rfl) rfl
theorem q1347 : (Jvm.Cond.code ({ cls := "FourOnOne", name := "personOf", desc := "(I)LFourOnOne$Person;" } : Jvm.MethodName) prog_1_method_22_code (2 : Nat) (Option.some (Jvm.ClassFile.FieldType.object "FourOnOne$Person"))) ∈ lw_all := lw_g (lw_at lw_m5 221 rfl) rfl
theorem q1348 : (Jvm.Cond.classLink "FourOnOne" (173 : Nat) "FourOnOne$Person") ∈ lw_all := lw_g (lw_at lw_m5 222 rfl) rfl
theorem q1349 : (Jvm.Cond.methodLink "FourOnOne" (239 : Nat) ({ cls := "FourOnOne", name := "has", desc := "(II)Z" } : Jvm.MethodName)) ∈ lw_all := lw_g (lw_at lw_m5 223 rfl) rfl
theorem q1351 : (Jvm.Cond.instanceMethod ({ cls := "FourOnOne", name := "taste", desc := "(II)I" } : Jvm.MethodName)) ∈ lw_all := lw_g (lw_at lw_m5 225 rfl) rfl
theorem q1352 : (Jvm.Cond.selects "FourOnOne" ({ cls := "FourOnOne", name := "taste", desc := "(II)I" } : Jvm.MethodName) ({ cls := "FourOnOne", name := "taste", desc := "(II)I" } : Jvm.MethodName)) ∈ lw_all := lw_g (lw_at lw_m5 226 rfl) rfl
theorem q1353 : (Jvm.Cond.code ({ cls := "FourOnOne", name := "taste", desc := "(II)I" } : Jvm.MethodName) prog_1_method_30_code (3 : Nat) (Option.some Jvm.ClassFile.FieldType.int)) ∈ lw_all := lw_g (lw_at lw_m5 227 rfl) rfl
theorem q1355 : (Jvm.Cond.instanceMethod ({ cls := "FourOnOne", name := "seen", desc := "(II)I" } : Jvm.MethodName)) ∈ lw_all := lw_g (lw_at lw_m5 229 rfl) rfl
theorem q1356 : (Jvm.Cond.selects "FourOnOne" ({ cls := "FourOnOne", name := "seen", desc := "(II)I" } : Jvm.MethodName) ({ cls := "FourOnOne", name := "seen", desc := "(II)I" } : Jvm.MethodName)) ∈ lw_all := lw_g (lw_at lw_m5 230 rfl) rfl
theorem q1357 : (Jvm.Cond.code ({ cls := "FourOnOne", name := "seen", desc := "(II)I" } : Jvm.MethodName) prog_1_method_31_code (3 : Nat) (Option.some Jvm.ClassFile.FieldType.int)) ∈ lw_all := lw_g (lw_at lw_m5 231 rfl) rfl
theorem q1359 : (Jvm.Cond.instanceMethod ({ cls := "FourOnOne", name := "suggest", desc := "(I)I" } : Jvm.MethodName)) ∈ lw_all := lw_g (lw_at lw_m5 233 rfl) rfl
theorem q1360 : (Jvm.Cond.selects "FourOnOne" ({ cls := "FourOnOne", name := "suggest", desc := "(I)I" } : Jvm.MethodName) ({ cls := "FourOnOne", name := "suggest", desc := "(I)I" } : Jvm.MethodName)) ∈ lw_all := lw_g (lw_at lw_m5 234 rfl) rfl
theorem q1361 : (Jvm.Cond.code ({ cls := "FourOnOne", name := "suggest", desc := "(I)I" } : Jvm.MethodName) prog_1_method_32_code (2 : Nat) (Option.some Jvm.ClassFile.FieldType.int)) ∈ lw_all := lw_g (lw_at lw_m5 235 rfl) rfl
theorem q1362 : (Jvm.Cond.methodLink "FourOnOne" (250 : Nat) ({ cls := "FourOnOne$State", name := "suggested", desc := "(I)I" } : Jvm.MethodName)) ∈ lw_all := lw_g (lw_at lw_m5 236 rfl) rfl
theorem q1413 : (Jvm.Cond.static ({ cls := "FourOnOne", name := "held", desc := "(J)J" } : Jvm.MethodName)) ∈ lw_all := lw_g (lw_at lw_m6 47 rfl) rfl
theorem q1414 : (Jvm.Cond.code ({ cls := "FourOnOne", name := "held", desc := "(J)J" } : Jvm.MethodName) prog_1_method_3_code (2 : Nat) (Option.some Jvm.ClassFile.FieldType.long)) ∈ lw_all := lw_g (lw_at lw_m6 48 rfl) rfl
theorem q1415 : (Jvm.Cond.constantLong "FourOnOne" (5 : Nat) (-1000000 : Int64)) ∈ lw_all := lw_g (lw_at lw_m6 49 rfl) rfl
theorem q1416 : (Jvm.Cond.constantLong "FourOnOne" (7 : Nat) (1000000 : Int64)) ∈ lw_all := lw_g (lw_at lw_m6 50 rfl) rfl
theorem q1417 : (Jvm.Cond.methodLink "FourOnOne" (9 : Nat) ({ cls := "java/lang/Math", name := "min", desc := "(JJ)J" } : Jvm.MethodName)) ∈ lw_all := lw_g (lw_at lw_m6 51 rfl) rfl
theorem q1420 : (Jvm.Cond.methodLink "FourOnOne" (15 : Nat) ({ cls := "java/lang/Math", name := "max", desc := "(JJ)J" } : Jvm.MethodName)) ∈ lw_all := lw_g (lw_at lw_m6 54 rfl) rfl
theorem q1439 : (Jvm.Cond.privateMethod ({ cls := "FourOnOne", name := "looked", desc := "(IJ)J" } : Jvm.MethodName)) ∈ lw_tbl := lw_at lw_m6 73 rfl
theorem q1440 : (Jvm.Cond.instanceMethod ({ cls := "FourOnOne", name := "looked", desc := "(IJ)J" } : Jvm.MethodName)) ∈ lw_all := lw_g (lw_at lw_m6 74 rfl) rfl
theorem q1441 : (Jvm.Cond.code ({ cls := "FourOnOne", name := "looked", desc := "(IJ)J" } : Jvm.MethodName) prog_1_method_62_code (4 : Nat) (Option.some Jvm.ClassFile.FieldType.long)) ∈ lw_all := lw_g (lw_at lw_m6 75 rfl) rfl
theorem q1468 : (Jvm.Cond.instanceMethod ({ cls := "FourOnOne", name := "worth", desc := "(II)I" } : Jvm.MethodName)) ∈ lw_all := lw_g (lw_at lw_m6 102 rfl) rfl
theorem q1469 : (Jvm.Cond.selects "FourOnOne" ({ cls := "FourOnOne", name := "worth", desc := "(II)I" } : Jvm.MethodName) ({ cls := "FourOnOne", name := "worth", desc := "(II)I" } : Jvm.MethodName)) ∈ lw_all := lw_g (lw_at lw_m6 103 rfl) rfl
theorem q1470 : (Jvm.Cond.code ({ cls := "FourOnOne", name := "worth", desc := "(II)I" } : Jvm.MethodName) prog_1_method_33_code (3 : Nat) (Option.some Jvm.ClassFile.FieldType.int)) ∈ lw_all := lw_g (lw_at lw_m6 104 rfl) rfl
theorem q1471 : (Jvm.Cond.methodLink "FourOnOne" (253 : Nat) ({ cls := "FourOnOne", name := "worthOf", desc := "(II)I" } : Jvm.MethodName)) ∈ lw_all := lw_g (lw_at lw_m6 105 rfl) rfl
theorem q1472 : (Jvm.Cond.privateMethod ({ cls := "FourOnOne", name := "worthOf", desc := "(II)I" } : Jvm.MethodName)) ∈ lw_tbl := lw_at lw_m6 106 rfl
theorem q1473 : (Jvm.Cond.instanceMethod ({ cls := "FourOnOne", name := "worthOf", desc := "(II)I" } : Jvm.MethodName)) ∈ lw_all := lw_g (lw_at lw_m6 107 rfl) rfl
theorem q1474 : (Jvm.Cond.code ({ cls := "FourOnOne", name := "worthOf", desc := "(II)I" } : Jvm.MethodName) prog_1_method_24_code (5 : Nat) (Option.some Jvm.ClassFile.FieldType.int)) ∈ lw_all := lw_g (lw_at lw_m6 108 rfl) rfl
theorem q1476 : (Jvm.Cond.instanceMethod ({ cls := "FourOnOne", name := "kept", desc := "(II)I" } : Jvm.MethodName)) ∈ lw_all := lw_g (lw_at lw_m6 110 rfl) rfl
theorem q1477 : (Jvm.Cond.selects "FourOnOne" ({ cls := "FourOnOne", name := "kept", desc := "(II)I" } : Jvm.MethodName) ({ cls := "FourOnOne", name := "kept", desc := "(II)I" } : Jvm.MethodName)) ∈ lw_all := lw_g (lw_at lw_m6 111 rfl) rfl
theorem q1478 : (Jvm.Cond.code ({ cls := "FourOnOne", name := "kept", desc := "(II)I" } : Jvm.MethodName) prog_1_method_34_code (3 : Nat) (Option.some Jvm.ClassFile.FieldType.int)) ∈ lw_all := lw_g (lw_at lw_m6 112 rfl) rfl
theorem q1480 : (Jvm.Cond.instanceMethod ({ cls := "FourOnOne", name := "pleased", desc := "(II)J" } : Jvm.MethodName)) ∈ lw_all := lw_g (lw_at lw_m6 114 rfl) rfl
theorem q1481 : (Jvm.Cond.selects "FourOnOne" ({ cls := "FourOnOne", name := "pleased", desc := "(II)J" } : Jvm.MethodName) ({ cls := "FourOnOne", name := "pleased", desc := "(II)J" } : Jvm.MethodName)) ∈ lw_all := lw_g (lw_at lw_m6 115 rfl) rfl
theorem q1482 : (Jvm.Cond.code ({ cls := "FourOnOne", name := "pleased", desc := "(II)J" } : Jvm.MethodName) prog_1_method_36_code (3 : Nat) (Option.some Jvm.ClassFile.FieldType.long)) ∈ lw_all := lw_g (lw_at lw_m6 116 rfl) rfl
theorem q1483 : (Jvm.Cond.methodLink "FourOnOne" (259 : Nat) ({ cls := "FourOnOne", name := "isAhead", desc := "(III)Z" } : Jvm.MethodName)) ∈ lw_all := lw_g (lw_at lw_m6 117 rfl) rfl
theorem q1484 : (Jvm.Cond.privateMethod ({ cls := "FourOnOne", name := "isAhead", desc := "(III)Z" } : Jvm.MethodName)) ∈ lw_tbl := lw_at lw_m6 118 rfl
theorem q1485 : (Jvm.Cond.instanceMethod ({ cls := "FourOnOne", name := "isAhead", desc := "(III)Z" } : Jvm.MethodName)) ∈ lw_all := lw_g (lw_at lw_m6 119 rfl) rfl
theorem q1486 : (Jvm.Cond.code ({ cls := "FourOnOne", name := "isAhead", desc := "(III)Z" } : Jvm.MethodName) prog_1_method_35_code (4 : Nat) (Option.some Jvm.ClassFile.FieldType.boolean)) ∈ lw_all := lw_g (lw_at lw_m6 120 rfl) rfl
theorem q1487 : (Jvm.Cond.methodLink "FourOnOne" (262 : Nat) ({ cls := "FourOnOne$State", name := "copy", desc := "(LFourOnOne$State;)LFourOnOne$State;" } : Jvm.MethodName)) ∈ lw_all := lw_g (lw_at lw_m6 121 rfl) rfl
theorem q1491 : (Jvm.Cond.methodLink "FourOnOne" (266 : Nat) ({ cls := "FourOnOne$State", name := "hours", desc := "(I)LFourOnOne$State;" } : Jvm.MethodName)) ∈ lw_all := lw_g (lw_at lw_m6 125 rfl) rfl
theorem q1501 : (Jvm.Cond.privateMethod ({ cls := "FourOnOne", name := "isFree", desc := "(II)Z" } : Jvm.MethodName)) ∈ lw_tbl := lw_at lw_m6 135 rfl
theorem q1502 : (Jvm.Cond.instanceMethod ({ cls := "FourOnOne", name := "isFree", desc := "(II)Z" } : Jvm.MethodName)) ∈ lw_all := lw_g (lw_at lw_m6 136 rfl) rfl
theorem q1503 : (Jvm.Cond.code ({ cls := "FourOnOne", name := "isFree", desc := "(II)Z" } : Jvm.MethodName) prog_1_method_23_code (3 : Nat) (Option.some Jvm.ClassFile.FieldType.boolean)) ∈ lw_all := lw_g (lw_at lw_m6 137 rfl) rfl
theorem q1527 : (Jvm.Cond.constantLong "FourOnOne" (274 : Nat) (-1000000000000000 : Int64)) ∈ lw_all := lw_g (lw_at lw_m6 161 rfl) rfl
theorem q1529 : (Jvm.Cond.instanceMethod ({ cls := "FourOnOne", name := "refused", desc := "(II)I" } : Jvm.MethodName)) ∈ lw_all := lw_g (lw_at lw_m6 163 rfl) rfl
theorem q1530 : (Jvm.Cond.selects "FourOnOne" ({ cls := "FourOnOne", name := "refused", desc := "(II)I" } : Jvm.MethodName) ({ cls := "FourOnOne", name := "refused", desc := "(II)I" } : Jvm.MethodName)) ∈ lw_all := lw_g (lw_at lw_m6 164 rfl) rfl
theorem q1531 : (Jvm.Cond.code ({ cls := "FourOnOne", name := "refused", desc := "(II)I" } : Jvm.MethodName) prog_1_method_37_code (3 : Nat) (Option.some Jvm.ClassFile.FieldType.int)) ∈ lw_all := lw_g (lw_at lw_m6 165 rfl) rfl
theorem q1533 : (Jvm.Cond.instanceMethod ({ cls := "FourOnOne", name := "pressing", desc := "(II)J" } : Jvm.MethodName)) ∈ lw_all := lw_g (lw_at lw_m6 167 rfl) rfl
theorem q1534 : (Jvm.Cond.selects "FourOnOne" ({ cls := "FourOnOne", name := "pressing", desc := "(II)J" } : Jvm.MethodName) ({ cls := "FourOnOne", name := "pressing", desc := "(II)J" } : Jvm.MethodName)) ∈ lw_all := lw_g (lw_at lw_m6 168 rfl) rfl
theorem q1535 : (Jvm.Cond.code ({ cls := "FourOnOne", name := "pressing", desc := "(II)J" } : Jvm.MethodName) prog_1_method_39_code (3 : Nat) (Option.some Jvm.ClassFile.FieldType.long)) ∈ lw_all := lw_g (lw_at lw_m6 169 rfl) rfl
theorem q1536 : (Jvm.Cond.methodLink "FourOnOne" (279 : Nat) ({ cls := "FourOnOne", name := "pleasedBy", desc := "(III)J" } : Jvm.MethodName)) ∈ lw_all := lw_g (lw_at lw_m6 170 rfl) rfl
theorem q1537 : (Jvm.Cond.privateMethod ({ cls := "FourOnOne", name := "pleasedBy", desc := "(III)J" } : Jvm.MethodName)) ∈ lw_tbl := lw_at lw_m6 171 rfl
theorem q1538 : (Jvm.Cond.instanceMethod ({ cls := "FourOnOne", name := "pleasedBy", desc := "(III)J" } : Jvm.MethodName)) ∈ lw_all := lw_g (lw_at lw_m6 172 rfl) rfl
theorem q1539 : (Jvm.Cond.code ({ cls := "FourOnOne", name := "pleasedBy", desc := "(III)J" } : Jvm.MethodName) prog_1_method_38_code (4 : Nat) (Option.some Jvm.ClassFile.FieldType.long)) ∈ lw_all := lw_g (lw_at lw_m6 173 rfl) rfl
theorem q1541 : (Jvm.Cond.instanceMethod ({ cls := "FourOnOne", name := "rest", desc := "(I)I" } : Jvm.MethodName)) ∈ lw_all := lw_g (lw_at lw_m6 175 rfl) rfl
theorem q1542 : (Jvm.Cond.selects "FourOnOne" ({ cls := "FourOnOne", name := "rest", desc := "(I)I" } : Jvm.MethodName) ({ cls := "FourOnOne", name := "rest", desc := "(I)I" } : Jvm.MethodName)) ∈ lw_all := lw_g (lw_at lw_m6 176 rfl) rfl
theorem q1543 : (Jvm.Cond.code ({ cls := "FourOnOne", name := "rest", desc := "(I)I" } : Jvm.MethodName) prog_1_method_41_code (5 : Nat) (Option.some Jvm.ClassFile.FieldType.int)) ∈ lw_all := lw_g (lw_at lw_m6 177 rfl) rfl
theorem q1544 : (Jvm.Cond.methodLink "FourOnOne" (283 : Nat) ({ cls := "FourOnOne", name := "isRest", desc := "(I)Z" } : Jvm.MethodName)) ∈ lw_all := lw_g (lw_at lw_m6 178 rfl) rfl
theorem q1545 : (Jvm.Cond.privateMethod ({ cls := "FourOnOne", name := "isRest", desc := "(I)Z" } : Jvm.MethodName)) ∈ lw_tbl := lw_at lw_m6 179 rfl
theorem q1546 : (Jvm.Cond.instanceMethod ({ cls := "FourOnOne", name := "isRest", desc := "(I)Z" } : Jvm.MethodName)) ∈ lw_all := lw_g (lw_at lw_m6 180 rfl) rfl
theorem q1547 : (Jvm.Cond.code ({ cls := "FourOnOne", name := "isRest", desc := "(I)Z" } : Jvm.MethodName) prog_1_method_40_code (3 : Nat) (Option.some Jvm.ClassFile.FieldType.boolean)) ∈ lw_all := lw_g (lw_at lw_m6 181 rfl) rfl
theorem q1549 : (Jvm.Cond.instanceMethod ({ cls := "FourOnOne", name := "gone", desc := "(II)I" } : Jvm.MethodName)) ∈ lw_all := lw_g (lw_at lw_m6 183 rfl) rfl
theorem q1550 : (Jvm.Cond.selects "FourOnOne" ({ cls := "FourOnOne", name := "gone", desc := "(II)I" } : Jvm.MethodName) ({ cls := "FourOnOne", name := "gone", desc := "(II)I" } : Jvm.MethodName)) ∈ lw_all := lw_g (lw_at lw_m6 184 rfl) rfl
theorem q1551 : (Jvm.Cond.code ({ cls := "FourOnOne", name := "gone", desc := "(II)I" } : Jvm.MethodName) prog_1_method_42_code (4 : Nat) (Option.some Jvm.ClassFile.FieldType.int)) ∈ lw_all := lw_g (lw_at lw_m6 185 rfl) rfl
theorem q1552 : (Jvm.Cond.methodLink "FourOnOne" (286 : Nat) ({ cls := "FourOnOne$State", name := "profile", desc := "(I)I" } : Jvm.MethodName)) ∈ lw_all := lw_g (lw_at lw_m6 186 rfl) rfl
theorem q1553 : (Jvm.Cond.methodLink "FourOnOne" (289 : Nat) ({ cls := "FourOnOne$State", name := "passes", desc := "()I" } : Jvm.MethodName)) ∈ lw_all := lw_g (lw_at lw_m6 187 rfl) rfl
theorem q1555 : (Jvm.Cond.instanceMethod ({ cls := "FourOnOne", name := "sow", desc := "(II)I" } : Jvm.MethodName)) ∈ lw_all := lw_g (lw_at lw_m6 189 rfl) rfl
theorem q1556 : (Jvm.Cond.selects "FourOnOne" ({ cls := "FourOnOne", name := "sow", desc := "(II)I" } : Jvm.MethodName) ({ cls := "FourOnOne", name := "sow", desc := "(II)I" } : Jvm.MethodName)) ∈ lw_all := lw_g (lw_at lw_m6 190 rfl) rfl
theorem q1557 : (Jvm.Cond.code ({ cls := "FourOnOne", name := "sow", desc := "(II)I" } : Jvm.MethodName) prog_1_method_43_code (7 : Nat) (Option.some Jvm.ClassFile.FieldType.int)) ∈ lw_all := lw_g (lw_at lw_m6 191 rfl) rfl
theorem q1558 : (Jvm.Cond.constantLong "FourOnOne" (292 : Nat) (-9223372036854775808 : Int64)) ∈ lw_all := lw_g (lw_at lw_m6 192 rfl) rfl
theorem q1559 : (Jvm.Cond.methodLink "FourOnOne" (294 : Nat) ({ cls := "FourOnOne$State", name := "isOver", desc := "(II)Z" } : Jvm.MethodName)) ∈ lw_all := lw_g (lw_at lw_m6 193 rfl) rfl
theorem q1560 : (Jvm.Cond.methodLink "FourOnOne" (297 : Nat) ({ cls := "FourOnOne$State", name := "sees", desc := "(II)I" } : Jvm.MethodName)) ∈ lw_all := lw_g (lw_at lw_m6 194 rfl) rfl
theorem q1562 : (Jvm.Cond.instanceMethod ({ cls := "FourOnOne", name := "who", desc := "(III)I" } : Jvm.MethodName)) ∈ lw_all := lw_g (lw_at lw_m6 196 rfl) rfl
theorem q1563 : (Jvm.Cond.selects "FourOnOne" ({ cls := "FourOnOne", name := "who", desc := "(III)I" } : Jvm.MethodName) ({ cls := "FourOnOne", name := "who", desc := "(III)I" } : Jvm.MethodName)) ∈ lw_all := lw_g (lw_at lw_m6 197 rfl) rfl
theorem q1564 : (Jvm.Cond.code ({ cls := "FourOnOne", name := "who", desc := "(III)I" } : Jvm.MethodName) prog_1_method_44_code (7 : Nat) (Option.some Jvm.ClassFile.FieldType.int)) ∈ lw_all := lw_g (lw_at lw_m6 198 rfl) rfl
theorem q1565 : (Jvm.Cond.methodLink "FourOnOne" (300 : Nat) ({ cls := "FourOnOne", name := "isFree", desc := "(II)Z" } : Jvm.MethodName)) ∈ lw_all := lw_g (lw_at lw_m6 199 rfl) rfl
theorem q1567 : (Jvm.Cond.instanceMethod ({ cls := "FourOnOne", name := "sofa", desc := "(II)I" } : Jvm.MethodName)) ∈ lw_all := lw_g (lw_at lw_m6 201 rfl) rfl
theorem q1568 : (Jvm.Cond.selects "FourOnOne" ({ cls := "FourOnOne", name := "sofa", desc := "(II)I" } : Jvm.MethodName) ({ cls := "FourOnOne", name := "sofa", desc := "(II)I" } : Jvm.MethodName)) ∈ lw_all := lw_g (lw_at lw_m6 202 rfl) rfl
theorem q1569 : (Jvm.Cond.code ({ cls := "FourOnOne", name := "sofa", desc := "(II)I" } : Jvm.MethodName) prog_1_method_47_code (5 : Nat) (Option.some Jvm.ClassFile.FieldType.int)) ∈ lw_all := lw_g (lw_at lw_m6 203 rfl) rfl
theorem q1570 : (Jvm.Cond.methodLink "FourOnOne" (309 : Nat) ({ cls := "FourOnOne", name := "together", desc := "(III)I" } : Jvm.MethodName)) ∈ lw_all := lw_g (lw_at lw_m6 204 rfl) rfl
theorem q1571 : (Jvm.Cond.privateMethod ({ cls := "FourOnOne", name := "together", desc := "(III)I" } : Jvm.MethodName)) ∈ lw_tbl := lw_at lw_m6 205 rfl
theorem q1572 : (Jvm.Cond.instanceMethod ({ cls := "FourOnOne", name := "together", desc := "(III)I" } : Jvm.MethodName)) ∈ lw_all := lw_g (lw_at lw_m6 206 rfl) rfl
theorem q1573 : (Jvm.Cond.code ({ cls := "FourOnOne", name := "together", desc := "(III)I" } : Jvm.MethodName) prog_1_method_46_code (7 : Nat) (Option.some Jvm.ClassFile.FieldType.int)) ∈ lw_all := lw_g (lw_at lw_m6 207 rfl) rfl
theorem q1574 : (Jvm.Cond.constant "FourOnOne" (303 : Nat) (100000000 : Int32)) ∈ lw_all := lw_g (lw_at lw_m6 208 rfl) rfl
theorem q1575 : (Jvm.Cond.methodLink "FourOnOne" (304 : Nat) ({ cls := "java/lang/Math", name := "min", desc := "(II)I" } : Jvm.MethodName)) ∈ lw_all := lw_g (lw_at lw_m6 209 rfl) rfl
theorem q1576 : (Jvm.Cond.methodLink "FourOnOne" (306 : Nat) ({ cls := "FourOnOne", name := "firstFilm", desc := "(I)I" } : Jvm.MethodName)) ∈ lw_all := lw_g (lw_at lw_m6 210 rfl) rfl
theorem q1577 : (Jvm.Cond.privateMethod ({ cls := "FourOnOne", name := "firstFilm", desc := "(I)I" } : Jvm.MethodName)) ∈ lw_tbl := lw_at lw_m6 211 rfl
theorem q1578 : (Jvm.Cond.instanceMethod ({ cls := "FourOnOne", name := "firstFilm", desc := "(I)I" } : Jvm.MethodName)) ∈ lw_all := lw_g (lw_at lw_m6 212 rfl) rfl
theorem q1579 : (Jvm.Cond.code ({ cls := "FourOnOne", name := "firstFilm", desc := "(I)I" } : Jvm.MethodName) prog_1_method_45_code (4 : Nat) (Option.some Jvm.ClassFile.FieldType.int)) ∈ lw_all := lw_g (lw_at lw_m6 213 rfl) rfl
theorem q1581 : (Jvm.Cond.instanceMethod ({ cls := "FourOnOne", name := "share", desc := "(I)I" } : Jvm.MethodName)) ∈ lw_all := lw_g (lw_at lw_m6 215 rfl) rfl
theorem q1582 : (Jvm.Cond.selects "FourOnOne" ({ cls := "FourOnOne", name := "share", desc := "(I)I" } : Jvm.MethodName) ({ cls := "FourOnOne", name := "share", desc := "(I)I" } : Jvm.MethodName)) ∈ lw_all := lw_g (lw_at lw_m6 216 rfl) rfl
theorem q1583 : (Jvm.Cond.code ({ cls := "FourOnOne", name := "share", desc := "(I)I" } : Jvm.MethodName) prog_1_method_48_code (6 : Nat) (Option.some Jvm.ClassFile.FieldType.int)) ∈ lw_all := lw_g (lw_at lw_m6 217 rfl) rfl
theorem q1585 : (Jvm.Cond.instanceMethod ({ cls := "FourOnOne", name := "tell", desc := "()I" } : Jvm.MethodName)) ∈ lw_all := lw_g (lw_at lw_m6 219 rfl) rfl
theorem q1586 : (Jvm.Cond.selects "FourOnOne" ({ cls := "FourOnOne", name := "tell", desc := "()I" } : Jvm.MethodName) ({ cls := "FourOnOne", name := "tell", desc := "()I" } : Jvm.MethodName)) ∈ lw_all := lw_g (lw_at lw_m6 220 rfl) rfl
theorem q1587 : (Jvm.Cond.code ({ cls := "FourOnOne", name := "tell", desc := "()I" } : Jvm.MethodName) prog_1_method_50_code (4 : Nat) (Option.some Jvm.ClassFile.FieldType.int)) ∈ lw_all := lw_g (lw_at lw_m6 221 rfl) rfl
theorem q1588 : (Jvm.Cond.methodLink "FourOnOne" (316 : Nat) ({ cls := "FourOnOne", name := "byteAt", desc := "(I)I" } : Jvm.MethodName)) ∈ lw_all := lw_g (lw_at lw_m6 222 rfl) rfl
theorem q1589 : (Jvm.Cond.privateMethod ({ cls := "FourOnOne", name := "byteAt", desc := "(I)I" } : Jvm.MethodName)) ∈ lw_tbl := lw_at lw_m6 223 rfl
theorem q1590 : (Jvm.Cond.instanceMethod ({ cls := "FourOnOne", name := "byteAt", desc := "(I)I" } : Jvm.MethodName)) ∈ lw_all := lw_g (lw_at lw_m6 224 rfl) rfl
theorem q1591 : (Jvm.Cond.code ({ cls := "FourOnOne", name := "byteAt", desc := "(I)I" } : Jvm.MethodName) prog_1_method_49_code (2 : Nat) (Option.some Jvm.ClassFile.FieldType.int)) ∈ lw_all := lw_g (lw_at lw_m6 225 rfl) rfl
theorem q1593 : (Jvm.Cond.instanceMethod ({ cls := "FourOnOne", name := "pressed", desc := "(I)I" } : Jvm.MethodName)) ∈ lw_all := lw_g (lw_at lw_m6 227 rfl) rfl
theorem q1594 : (Jvm.Cond.selects "FourOnOne" ({ cls := "FourOnOne", name := "pressed", desc := "(I)I" } : Jvm.MethodName) ({ cls := "FourOnOne", name := "pressed", desc := "(I)I" } : Jvm.MethodName)) ∈ lw_all := lw_g (lw_at lw_m6 228 rfl) rfl
theorem q1595 : (Jvm.Cond.code ({ cls := "FourOnOne", name := "pressed", desc := "(I)I" } : Jvm.MethodName) prog_1_method_53_code (6 : Nat) (Option.some Jvm.ClassFile.FieldType.int)) ∈ lw_all := lw_g (lw_at lw_m6 229 rfl) rfl
theorem q1596 : (Jvm.Cond.methodLink "FourOnOne" (321 : Nat) ({ cls := "FourOnOne", name := "lastHour", desc := "()I" } : Jvm.MethodName)) ∈ lw_all := lw_g (lw_at lw_m6 230 rfl) rfl
theorem q1597 : (Jvm.Cond.privateMethod ({ cls := "FourOnOne", name := "lastHour", desc := "()I" } : Jvm.MethodName)) ∈ lw_tbl := lw_at lw_m6 231 rfl
theorem q1598 : (Jvm.Cond.instanceMethod ({ cls := "FourOnOne", name := "lastHour", desc := "()I" } : Jvm.MethodName)) ∈ lw_all := lw_g (lw_at lw_m6 232 rfl) rfl
theorem q1599 : (Jvm.Cond.code ({ cls := "FourOnOne", name := "lastHour", desc := "()I" } : Jvm.MethodName) prog_1_method_51_code (3 : Nat) (Option.some Jvm.ClassFile.FieldType.int)) ∈ lw_all := lw_g (lw_at lw_m6 233 rfl) rfl
theorem q1600 : (Jvm.Cond.methodLink "FourOnOne" (319 : Nat) ({ cls := "java/lang/Math", name := "max", desc := "(II)I" } : Jvm.MethodName)) ∈ lw_all := lw_g (lw_at lw_m6 234 rfl) rfl
theorem q1601 : (Jvm.Cond.methodLink "FourOnOne" (327 : Nat) ({ cls := "FourOnOne", name := "isAsTold", desc := "(I)Z" } : Jvm.MethodName)) ∈ lw_all := lw_g (lw_at lw_m6 235 rfl) rfl
theorem q1602 : (Jvm.Cond.privateMethod ({ cls := "FourOnOne", name := "isAsTold", desc := "(I)Z" } : Jvm.MethodName)) ∈ lw_tbl := lw_at lw_m6 236 rfl
theorem q1603 : (Jvm.Cond.instanceMethod ({ cls := "FourOnOne", name := "isAsTold", desc := "(I)Z" } : Jvm.MethodName)) ∈ lw_all := lw_g (lw_at lw_m6 237 rfl) rfl
theorem q1604 : (Jvm.Cond.code ({ cls := "FourOnOne", name := "isAsTold", desc := "(I)Z" } : Jvm.MethodName) prog_1_method_52_code (5 : Nat) (Option.some Jvm.ClassFile.FieldType.boolean)) ∈ lw_all := lw_g (lw_at lw_m6 238 rfl) rfl
theorem q1606 : (Jvm.Cond.instanceMethod ({ cls := "FourOnOne", name := "undo", desc := "()Z" } : Jvm.MethodName)) ∈ lw_all := lw_g (lw_at lw_m7 0 rfl) rfl
theorem q1607 : (Jvm.Cond.selects "FourOnOne" ({ cls := "FourOnOne", name := "undo", desc := "()Z" } : Jvm.MethodName) ({ cls := "FourOnOne", name := "undo", desc := "()Z" } : Jvm.MethodName)) ∈ lw_all := lw_g (lw_at lw_m7 1 rfl) rfl
theorem q1608 : (Jvm.Cond.code ({ cls := "FourOnOne", name := "undo", desc := "()Z" } : Jvm.MethodName) prog_1_method_55_code (1 : Nat) (Option.some Jvm.ClassFile.FieldType.boolean)) ∈ lw_all := lw_g (lw_at lw_m7 2 rfl) rfl
theorem q1610 : (Jvm.Cond.instanceMethod ({ cls := "FourOnOne", name := "press", desc := "(II)Z" } : Jvm.MethodName)) ∈ lw_all := lw_g (lw_at lw_m7 4 rfl) rfl
theorem q1611 : (Jvm.Cond.selects "FourOnOne" ({ cls := "FourOnOne", name := "press", desc := "(II)Z" } : Jvm.MethodName) ({ cls := "FourOnOne", name := "press", desc := "(II)Z" } : Jvm.MethodName)) ∈ lw_all := lw_g (lw_at lw_m7 5 rfl) rfl
theorem q1612 : (Jvm.Cond.code ({ cls := "FourOnOne", name := "press", desc := "(II)Z" } : Jvm.MethodName) prog_1_method_56_code (3 : Nat) (Option.some Jvm.ClassFile.FieldType.boolean)) ∈ lw_all := lw_g (lw_at lw_m7 6 rfl) rfl
theorem q1613 : (Jvm.Cond.methodLink "FourOnOne" (330 : Nat) ({ cls := "FourOnOne", name := "keeps", desc := "()V" } : Jvm.MethodName)) ∈ lw_all := lw_g (lw_at lw_m7 7 rfl) rfl
theorem q1614 : (Jvm.Cond.privateMethod ({ cls := "FourOnOne", name := "keeps", desc := "()V" } : Jvm.MethodName)) ∈ lw_tbl := lw_at lw_m7 8 rfl
theorem q1615 : (Jvm.Cond.instanceMethod ({ cls := "FourOnOne", name := "keeps", desc := "()V" } : Jvm.MethodName)) ∈ lw_all := lw_g (lw_at lw_m7 9 rfl) rfl
theorem q1616 : (Jvm.Cond.code ({ cls := "FourOnOne", name := "keeps", desc := "()V" } : Jvm.MethodName) prog_1_method_54_code (3 : Nat) (Option.none : Option Jvm.ClassFile.FieldType)) ∈ lw_all := lw_g (lw_at lw_m7 10 rfl) rfl
theorem q1618 : (Jvm.Cond.instanceMethod ({ cls := "FourOnOne", name := "show", desc := "(II)J" } : Jvm.MethodName)) ∈ lw_all := lw_g (lw_at lw_m7 12 rfl) rfl
theorem q1619 : (Jvm.Cond.selects "FourOnOne" ({ cls := "FourOnOne", name := "show", desc := "(II)J" } : Jvm.MethodName) ({ cls := "FourOnOne", name := "show", desc := "(II)J" } : Jvm.MethodName)) ∈ lw_all := lw_g (lw_at lw_m7 13 rfl) rfl
theorem q1620 : (Jvm.Cond.code ({ cls := "FourOnOne", name := "show", desc := "(II)J" } : Jvm.MethodName) prog_1_method_57_code (3 : Nat) (Option.some Jvm.ClassFile.FieldType.long)) ∈ lw_all := lw_g (lw_at lw_m7 14 rfl) rfl
theorem q1622 : (Jvm.Cond.instanceMethod ({ cls := "FourOnOne", name := "hours", desc := "(I)I" } : Jvm.MethodName)) ∈ lw_all := lw_g (lw_at lw_m7 16 rfl) rfl
theorem q1623 : (Jvm.Cond.selects "FourOnOne" ({ cls := "FourOnOne", name := "hours", desc := "(I)I" } : Jvm.MethodName) ({ cls := "FourOnOne", name := "hours", desc := "(I)I" } : Jvm.MethodName)) ∈ lw_all := lw_g (lw_at lw_m7 17 rfl) rfl
theorem q1624 : (Jvm.Cond.code ({ cls := "FourOnOne", name := "hours", desc := "(I)I" } : Jvm.MethodName) prog_1_method_58_code (4 : Nat) (Option.some Jvm.ClassFile.FieldType.int)) ∈ lw_all := lw_g (lw_at lw_m7 18 rfl) rfl
theorem q1626 : (Jvm.Cond.instanceMethod ({ cls := "FourOnOne", name := "chance", desc := "(I)I" } : Jvm.MethodName)) ∈ lw_all := lw_g (lw_at lw_m7 20 rfl) rfl
theorem q1627 : (Jvm.Cond.selects "FourOnOne" ({ cls := "FourOnOne", name := "chance", desc := "(I)I" } : Jvm.MethodName) ({ cls := "FourOnOne", name := "chance", desc := "(I)I" } : Jvm.MethodName)) ∈ lw_all := lw_g (lw_at lw_m7 21 rfl) rfl
theorem q1628 : (Jvm.Cond.code ({ cls := "FourOnOne", name := "chance", desc := "(I)I" } : Jvm.MethodName) prog_1_method_60_code (4 : Nat) (Option.some Jvm.ClassFile.FieldType.int)) ∈ lw_all := lw_g (lw_at lw_m7 22 rfl) rfl
theorem q1629 : (Jvm.Cond.methodLink "FourOnOne" (340 : Nat) ({ cls := "FourOnOne", name := "draw", desc := "(I)I" } : Jvm.MethodName)) ∈ lw_all := lw_g (lw_at lw_m7 23 rfl) rfl
theorem q1630 : (Jvm.Cond.privateMethod ({ cls := "FourOnOne", name := "draw", desc := "(I)I" } : Jvm.MethodName)) ∈ lw_tbl := lw_at lw_m7 24 rfl
theorem q1631 : (Jvm.Cond.instanceMethod ({ cls := "FourOnOne", name := "draw", desc := "(I)I" } : Jvm.MethodName)) ∈ lw_all := lw_g (lw_at lw_m7 25 rfl) rfl
theorem q1632 : (Jvm.Cond.code ({ cls := "FourOnOne", name := "draw", desc := "(I)I" } : Jvm.MethodName) prog_1_method_59_code (2 : Nat) (Option.some Jvm.ClassFile.FieldType.int)) ∈ lw_all := lw_g (lw_at lw_m7 26 rfl) rfl
theorem q1633 : (Jvm.Cond.constantLong "FourOnOne" (332 : Nat) (1103515245 : Int64)) ∈ lw_all := lw_g (lw_at lw_m7 27 rfl) rfl
theorem q1634 : (Jvm.Cond.constantLong "FourOnOne" (334 : Nat) (12345 : Int64)) ∈ lw_all := lw_g (lw_at lw_m7 28 rfl) rfl
theorem q1635 : (Jvm.Cond.constantLong "FourOnOne" (336 : Nat) (2147483648 : Int64)) ∈ lw_all := lw_g (lw_at lw_m7 29 rfl) rfl
theorem q1636 : (Jvm.Cond.constantLong "FourOnOne" (338 : Nat) (64 : Int64)) ∈ lw_all := lw_g (lw_at lw_m7 30 rfl) rfl
theorem q1637 : (Jvm.Cond.methodLink "FourOnOne" (346 : Nat) ({ cls := "FourOnOne$State", name := "isStranger", desc := "(I)Z" } : Jvm.MethodName)) ∈ lw_all := lw_g (lw_at lw_m7 31 rfl) rfl
theorem q1642 : (Jvm.Cond.instanceMethod ({ cls := "FourOnOne", name := "seed", desc := "(I)Z" } : Jvm.MethodName)) ∈ lw_all := lw_g (lw_at lw_m7 36 rfl) rfl
theorem q1643 : (Jvm.Cond.selects "FourOnOne" ({ cls := "FourOnOne", name := "seed", desc := "(I)Z" } : Jvm.MethodName) ({ cls := "FourOnOne", name := "seed", desc := "(I)Z" } : Jvm.MethodName)) ∈ lw_all := lw_g (lw_at lw_m7 37 rfl) rfl
theorem q1644 : (Jvm.Cond.code ({ cls := "FourOnOne", name := "seed", desc := "(I)Z" } : Jvm.MethodName) prog_1_method_61_code (2 : Nat) (Option.some Jvm.ClassFile.FieldType.boolean)) ∈ lw_all := lw_g (lw_at lw_m7 38 rfl) rfl
theorem q1646 : (Jvm.Cond.instanceMethod ({ cls := "FourOnOne", name := "ask", desc := "(I)J" } : Jvm.MethodName)) ∈ lw_all := lw_g (lw_at lw_m7 40 rfl) rfl
theorem q1647 : (Jvm.Cond.selects "FourOnOne" ({ cls := "FourOnOne", name := "ask", desc := "(I)J" } : Jvm.MethodName) ({ cls := "FourOnOne", name := "ask", desc := "(I)J" } : Jvm.MethodName)) ∈ lw_all := lw_g (lw_at lw_m7 41 rfl) rfl
theorem q1648 : (Jvm.Cond.codeWith ({ cls := "FourOnOne", name := "ask", desc := "(I)J" } : Jvm.MethodName) prog_1_method_63_code (5 : Nat) (Option.some Jvm.ClassFile.FieldType.long) [((27 : Nat), (36 : Nat), (39 : Nat), (126 : Nat))]) ∈ lw_all := lw_g (lw_at lw_m7 42 rfl) rfl
theorem q1649 : (Jvm.Cond.methodLink "FourOnOne" (352 : Nat) ({ cls := "FourOnOne$Reader", name := "question", desc := "(I)LFourOnOne$Question;" } : Jvm.MethodName)) ∈ lw_all := lw_g (lw_at lw_m7 43 rfl) rfl
theorem q1654 : (Jvm.Cond.laysStatic "FourOnOne" "TOLD_OF" "[Ljava/lang/String;") ∈ lw_tbl := lw_at lw_m7 48 rfl
theorem q1678 : (Jvm.Cond.methodLink "FourOnOne" (359 : Nat) ({ cls := "FourOnOne$State", name := "score", desc := "(II)I" } : Jvm.MethodName)) ∈ lw_all := lw_g (lw_at lw_m7 72 rfl) rfl
theorem q1679 : (Jvm.Cond.methodLink "FourOnOne" (362 : Nat) ({ cls := "FourOnOne$Question", name := "meets", desc := "(ILFourOnOne$Moment;)V" } : Jvm.MethodName)) ∈ lw_all := lw_g (lw_at lw_m7 73 rfl) rfl
theorem q1687 : (Jvm.Cond.methodLink "FourOnOne" (368 : Nat) ({ cls := "FourOnOne$Question", name := "answer", desc := "()J" } : Jvm.MethodName)) ∈ lw_all := lw_g (lw_at lw_m7 81 rfl) rfl
theorem q1692 : (Jvm.Cond.instanceMethod ({ cls := "FourOnOne", name := "image", desc := "()I" } : Jvm.MethodName)) ∈ lw_all := lw_g (lw_at lw_m7 86 rfl) rfl
theorem q1693 : (Jvm.Cond.selects "FourOnOne" ({ cls := "FourOnOne", name := "image", desc := "()I" } : Jvm.MethodName) ({ cls := "FourOnOne", name := "image", desc := "()I" } : Jvm.MethodName)) ∈ lw_all := lw_g (lw_at lw_m7 87 rfl) rfl
theorem q1694 : (Jvm.Cond.code ({ cls := "FourOnOne", name := "image", desc := "()I" } : Jvm.MethodName) prog_1_method_66_code (3 : Nat) (Option.some Jvm.ClassFile.FieldType.int)) ∈ lw_all := lw_g (lw_at lw_m7 88 rfl) rfl
theorem q1695 : (Jvm.Cond.methodLink "FourOnOne" (375 : Nat) ({ cls := "FourOnOne", name := "writes", desc := "(II)V" } : Jvm.MethodName)) ∈ lw_all := lw_g (lw_at lw_m7 89 rfl) rfl
theorem q1696 : (Jvm.Cond.privateMethod ({ cls := "FourOnOne", name := "writes", desc := "(II)V" } : Jvm.MethodName)) ∈ lw_tbl := lw_at lw_m7 90 rfl
theorem q1697 : (Jvm.Cond.instanceMethod ({ cls := "FourOnOne", name := "writes", desc := "(II)V" } : Jvm.MethodName)) ∈ lw_all := lw_g (lw_at lw_m7 91 rfl) rfl
theorem q1698 : (Jvm.Cond.code ({ cls := "FourOnOne", name := "writes", desc := "(II)V" } : Jvm.MethodName) prog_1_method_64_code (4 : Nat) (Option.none : Option Jvm.ClassFile.FieldType)) ∈ lw_all := lw_g (lw_at lw_m7 92 rfl) rfl
theorem q1699 : (Jvm.Cond.methodLink "FourOnOne" (379 : Nat) ({ cls := "FourOnOne", name := "check", desc := "([BI)I" } : Jvm.MethodName)) ∈ lw_all := lw_g (lw_at lw_m7 93 rfl) rfl
theorem q1700 : (Jvm.Cond.static ({ cls := "FourOnOne", name := "check", desc := "([BI)I" } : Jvm.MethodName)) ∈ lw_all := lw_g (lw_at lw_m7 94 rfl) rfl
theorem q1701 : (Jvm.Cond.code ({ cls := "FourOnOne", name := "check", desc := "([BI)I" } : Jvm.MethodName) prog_1_method_65_code (4 : Nat) (Option.some Jvm.ClassFile.FieldType.int)) ∈ lw_all := lw_g (lw_at lw_m7 95 rfl) rfl
theorem q1703 : (Jvm.Cond.instanceMethod ({ cls := "FourOnOne", name := "octet", desc := "(I)I" } : Jvm.MethodName)) ∈ lw_all := lw_g (lw_at lw_m7 97 rfl) rfl
theorem q1704 : (Jvm.Cond.selects "FourOnOne" ({ cls := "FourOnOne", name := "octet", desc := "(I)I" } : Jvm.MethodName) ({ cls := "FourOnOne", name := "octet", desc := "(I)I" } : Jvm.MethodName)) ∈ lw_all := lw_g (lw_at lw_m7 98 rfl) rfl
theorem q1705 : (Jvm.Cond.code ({ cls := "FourOnOne", name := "octet", desc := "(I)I" } : Jvm.MethodName) prog_1_method_67_code (2 : Nat) (Option.some Jvm.ClassFile.FieldType.int)) ∈ lw_all := lw_g (lw_at lw_m7 99 rfl) rfl
theorem q1707 : (Jvm.Cond.instanceMethod ({ cls := "FourOnOne", name := "on", desc := "()Z" } : Jvm.MethodName)) ∈ lw_all := lw_g (lw_at lw_m7 101 rfl) rfl
theorem q1708 : (Jvm.Cond.selects "FourOnOne" ({ cls := "FourOnOne", name := "on", desc := "()Z" } : Jvm.MethodName) ({ cls := "FourOnOne", name := "on", desc := "()Z" } : Jvm.MethodName)) ∈ lw_all := lw_g (lw_at lw_m7 102 rfl) rfl
theorem q1709 : (Jvm.Cond.code ({ cls := "FourOnOne", name := "on", desc := "()Z" } : Jvm.MethodName) prog_1_method_71_code (6 : Nat) (Option.some Jvm.ClassFile.FieldType.boolean)) ∈ lw_all := lw_g (lw_at lw_m7 103 rfl) rfl
theorem q1710 : (Jvm.Cond.methodLink "FourOnOne" (383 : Nat) ({ cls := "FourOnOne", name := "twoAt", desc := "(I)I" } : Jvm.MethodName)) ∈ lw_all := lw_g (lw_at lw_m7 104 rfl) rfl
theorem q1711 : (Jvm.Cond.privateMethod ({ cls := "FourOnOne", name := "twoAt", desc := "(I)I" } : Jvm.MethodName)) ∈ lw_tbl := lw_at lw_m7 105 rfl
theorem q1712 : (Jvm.Cond.instanceMethod ({ cls := "FourOnOne", name := "twoAt", desc := "(I)I" } : Jvm.MethodName)) ∈ lw_all := lw_g (lw_at lw_m7 106 rfl) rfl
theorem q1713 : (Jvm.Cond.code ({ cls := "FourOnOne", name := "twoAt", desc := "(I)I" } : Jvm.MethodName) prog_1_method_68_code (2 : Nat) (Option.some Jvm.ClassFile.FieldType.int)) ∈ lw_all := lw_g (lw_at lw_m7 107 rfl) rfl
theorem q1714 : (Jvm.Cond.methodLink "FourOnOne" (386 : Nat) ({ cls := "FourOnOne", name := "profileOn", desc := "(II)Z" } : Jvm.MethodName)) ∈ lw_all := lw_g (lw_at lw_m7 108 rfl) rfl
theorem q1715 : (Jvm.Cond.privateMethod ({ cls := "FourOnOne", name := "profileOn", desc := "(II)Z" } : Jvm.MethodName)) ∈ lw_tbl := lw_at lw_m7 109 rfl
theorem q1716 : (Jvm.Cond.instanceMethod ({ cls := "FourOnOne", name := "profileOn", desc := "(II)Z" } : Jvm.MethodName)) ∈ lw_all := lw_g (lw_at lw_m7 110 rfl) rfl
theorem q1717 : (Jvm.Cond.code ({ cls := "FourOnOne", name := "profileOn", desc := "(II)Z" } : Jvm.MethodName) prog_1_method_69_code (5 : Nat) (Option.some Jvm.ClassFile.FieldType.boolean)) ∈ lw_all := lw_g (lw_at lw_m7 111 rfl) rfl
theorem q1718 : (Jvm.Cond.methodLink "FourOnOne" (389 : Nat) ({ cls := "FourOnOne", name := "personOn", desc := "(II)Z" } : Jvm.MethodName)) ∈ lw_all := lw_g (lw_at lw_m7 112 rfl) rfl
theorem q1719 : (Jvm.Cond.privateMethod ({ cls := "FourOnOne", name := "personOn", desc := "(II)Z" } : Jvm.MethodName)) ∈ lw_tbl := lw_at lw_m7 113 rfl
theorem q1720 : (Jvm.Cond.instanceMethod ({ cls := "FourOnOne", name := "personOn", desc := "(II)Z" } : Jvm.MethodName)) ∈ lw_all := lw_g (lw_at lw_m7 114 rfl) rfl
theorem q1721 : (Jvm.Cond.code ({ cls := "FourOnOne", name := "personOn", desc := "(II)Z" } : Jvm.MethodName) prog_1_method_70_code (3 : Nat) (Option.some Jvm.ClassFile.FieldType.boolean)) ∈ lw_all := lw_g (lw_at lw_m7 115 rfl) rfl
theorem q1723 : (Jvm.Cond.instanceMethod ({ cls := "FourOnOne", name := "status", desc := "(I)I" } : Jvm.MethodName)) ∈ lw_all := lw_g (lw_at lw_m7 117 rfl) rfl
theorem q1724 : (Jvm.Cond.selects "FourOnOne" ({ cls := "FourOnOne", name := "status", desc := "(I)I" } : Jvm.MethodName) ({ cls := "FourOnOne", name := "status", desc := "(I)I" } : Jvm.MethodName)) ∈ lw_all := lw_g (lw_at lw_m7 118 rfl) rfl
theorem q1725 : (Jvm.Cond.code ({ cls := "FourOnOne", name := "status", desc := "(I)I" } : Jvm.MethodName) prog_1_method_72_code (2 : Nat) (Option.some Jvm.ClassFile.FieldType.int)) ∈ lw_all := lw_g (lw_at lw_m7 119 rfl) rfl
theorem q2648 : (Jvm.Cond.castable "FourOnOne" "java/lang/Object") ∈ lw_tbl := lw_at lw_m11 82 rfl
theorem q2685 : (Jvm.Cond.stringRef "FourOnOne" (425 : Nat) "kind") ∈ lw_tbl := lw_at lw_m11 119 rfl
theorem q2686 : (Jvm.Cond.stringRef "FourOnOne" (426 : Nat) "film") ∈ lw_tbl := lw_at lw_m11 120 rfl
theorem q2687 : (Jvm.Cond.stringRef "FourOnOne" (396 : Nat) "parts") ∈ lw_tbl := lw_at lw_m11 121 rfl
theorem q2688 : (Jvm.Cond.stringRef "FourOnOne" (428 : Nat) "is") ∈ lw_tbl := lw_at lw_m11 122 rfl
theorem q2689 : (Jvm.Cond.stringRef "FourOnOne" (429 : Nat) "person") ∈ lw_tbl := lw_at lw_m11 123 rfl
theorem q2690 : (Jvm.Cond.stringRef "FourOnOne" (431 : Nat) "at") ∈ lw_tbl := lw_at lw_m11 124 rfl
theorem q2691 : (Jvm.Cond.stringRef "FourOnOne" (433 : Nat) "to") ∈ lw_tbl := lw_at lw_m11 125 rfl
theorem q2692 : (Jvm.Cond.stringRef "FourOnOne" (434 : Nat) "likes") ∈ lw_tbl := lw_at lw_m11 126 rfl
theorem q2693 : (Jvm.Cond.stringRef "FourOnOne" (435 : Nat) "press") ∈ lw_tbl := lw_at lw_m11 127 rfl
theorem q2694 : (Jvm.Cond.stringRef "FourOnOne" (437 : Nat) "learns") ∈ lw_tbl := lw_at lw_m11 128 rfl
theorem q2695 : (Jvm.Cond.stringRef "FourOnOne" (439 : Nat) "fades") ∈ lw_tbl := lw_at lw_m11 129 rfl
theorem q2696 : (Jvm.Cond.stringRef "FourOnOne" (441 : Nat) "may") ∈ lw_tbl := lw_at lw_m11 130 rfl
theorem q2697 : (Jvm.Cond.stringRef "FourOnOne" (443 : Nat) "screens") ∈ lw_tbl := lw_at lw_m11 131 rfl
theorem q2698 : (Jvm.Cond.stringRef "FourOnOne" (444 : Nat) "price") ∈ lw_tbl := lw_at lw_m11 132 rfl
theorem q2699 : (Jvm.Cond.stringRef "FourOnOne" (445 : Nat) "bother") ∈ lw_tbl := lw_at lw_m11 133 rfl
theorem q2700 : (Jvm.Cond.stringRef "FourOnOne" (447 : Nat) "strange") ∈ lw_tbl := lw_at lw_m11 134 rfl
theorem q2701 : (Jvm.Cond.stringRef "FourOnOne" (392 : Nat) "hour") ∈ lw_tbl := lw_at lw_m11 135 rfl
theorem q2702 : (Jvm.Cond.stringRef "FourOnOne" (393 : Nat) "taste") ∈ lw_tbl := lw_at lw_m11 136 rfl
theorem q2703 : (Jvm.Cond.stringRef "FourOnOne" (394 : Nat) "weight") ∈ lw_tbl := lw_at lw_m11 137 rfl
theorem q2704 : (Jvm.Cond.stringRef "FourOnOne" (397 : Nat) "seen") ∈ lw_tbl := lw_at lw_m11 138 rfl
theorem q2705 : (Jvm.Cond.stringRef "FourOnOne" (398 : Nat) "score") ∈ lw_tbl := lw_at lw_m11 139 rfl
theorem q2706 : (Jvm.Cond.stringRef "FourOnOne" (401 : Nat) "worth") ∈ lw_tbl := lw_at lw_m11 140 rfl
theorem q2707 : (Jvm.Cond.stringRef "FourOnOne" (399 : Nat) "number") ∈ lw_tbl := lw_at lw_m11 141 rfl
theorem q2708 : (Jvm.Cond.stringRef "FourOnOne" (448 : Nat) "or") ∈ lw_tbl := lw_at lw_m11 142 rfl
theorem q2709 : (Jvm.Cond.stringRef "FourOnOne" (450 : Nat) "and") ∈ lw_tbl := lw_at lw_m11 143 rfl
theorem q2710 : (Jvm.Cond.stringRef "FourOnOne" (452 : Nat) "not") ∈ lw_tbl := lw_at lw_m11 144 rfl
theorem q2711 : (Jvm.Cond.stringRef "FourOnOne" (454 : Nat) "all") ∈ lw_tbl := lw_at lw_m11 145 rfl
theorem q2712 : (Jvm.Cond.stringRef "FourOnOne" (455 : Nat) "min") ∈ lw_tbl := lw_at lw_m11 146 rfl
theorem q2713 : (Jvm.Cond.stringRef "FourOnOne" (456 : Nat) "max") ∈ lw_tbl := lw_at lw_m11 147 rfl
theorem q2715 : (Jvm.Cond.stringRef "FourOnOne" (410 : Nat) "first") ∈ lw_tbl := lw_at lw_m11 149 rfl
theorem q2716 : (Jvm.Cond.stringRef "FourOnOne" (412 : Nat) "last") ∈ lw_tbl := lw_at lw_m11 150 rfl
theorem q2717 : (Jvm.Cond.stringRef "FourOnOne" (414 : Nat) "often") ∈ lw_tbl := lw_at lw_m11 151 rfl
theorem q2718 : (Jvm.Cond.stringRef "FourOnOne" (416 : Nat) "total") ∈ lw_tbl := lw_at lw_m11 152 rfl
theorem q2719 : (Jvm.Cond.stringRef "FourOnOne" (418 : Nat) "most") ∈ lw_tbl := lw_at lw_m11 153 rfl
theorem q2720 : (Jvm.Cond.stringRef "FourOnOne" (420 : Nat) "least") ∈ lw_tbl := lw_at lw_m11 154 rfl
theorem in_X0 : ∀ w ∈ wsX00, w ∈ lw_all := lw_in wsX00 [502, 504, 506, 508, 510, 512, 514, 516, 518, 520, 522, 524, 526, 528, 530, 532, 534, 536, 538, 540, 542, 544] (by decide +kernel) (by decide +kernel)

/-! FourOnOne$Reader -/
set_option maxRecDepth 100000
def RX2 : String := "FourOnOne$Reader"
def TX2 : u_T := fun k => match k with
  | 0 => ("FourOnOne$Reader", "fault", "LFourOnOne$Fault;", true)
  | 1 => ("FourOnOne$Reader", "size", "I", false)
  | 2 => ("FourOnOne$Reader", "at", "I", false)
  | 3 => ("FourOnOne$Reader", "from", "I", false)
  | 4 => ("FourOnOne$Reader", "open", "I", false)
  | 5 => ("FourOnOne$Reader", "context", "I", false)
  | 6 => ("FourOnOne$Reader", "to", "LFourOnOne$House;", false)
  | _ => ("FourOnOne$Reader", "this$0", "LFourOnOne;", true)
def tyX2 : Nat → FieldType := fun k => match k with
  | 0 => .object "FourOnOne$Fault"
  | 1 => .int
  | 2 => .int
  | 3 => .int
  | 4 => .int
  | 5 => .int
  | 6 => .object "FourOnOne$House"
  | _ => .object "FourOnOne"
abbrev wsX20 : List Cond := u_ws RX2 TX2 8
theorem nmX2 : ∀ a, a < 8 → ∀ b, b < 8 → a ≠ b → (TX2 a).2.1 ≠ (TX2 b).2.1 := by decide +kernel
theorem tyX2_ok : ∀ k, k < 8 → parseFieldDescriptor (TX2 k).2.2.1 = some (tyX2 k) := by decide +kernel
abbrev cX2_init : ByteArray := prog_17_method_1_code
def yX2_init : MethodName := ⟨RX2, "<init>", "(LFourOnOne;)V"⟩
def dkwX2_init_0 : List UInt8 := [42, 43, 181, 0, 3, 42, 183, 0, 9, 42, 187, 0, 15, 89, 183, 0, 17, 181, 0, 18, 177]
abbrev dktX2_init_0 : List UInt8 := dkwX2_init_0 ++ []
theorem dksX2_init_0 : cX2_init.data.toList.drop 0 = dktX2_init_0 := by decide +kernel
theorem dX2_init_0 : decode cX2_init 0 = .ok (.aload_n 0, 1) := dk_42 (dk_at dksX2_init_0 0 rfl rfl)
theorem dX2_init_1 : decode cX2_init 1 = .ok (.aload_n 1, 1) := dk_43 (dk_at dksX2_init_0 1 rfl rfl)
theorem dX2_init_2 : decode cX2_init 2 = .ok (.putfield 3, 3) := dk_181 0 3 (dk_at dksX2_init_0 2 rfl rfl)
theorem dX2_init_5 : decode cX2_init 5 = .ok (.aload_n 0, 1) := dk_42 (dk_at dksX2_init_0 5 rfl rfl)
theorem dX2_init_6 : decode cX2_init 6 = .ok (.invokespecial 9, 3) := dk_183 0 9 (dk_at dksX2_init_0 6 rfl rfl)
theorem dX2_init_9 : decode cX2_init 9 = .ok (.aload_n 0, 1) := dk_42 (dk_at dksX2_init_0 9 rfl rfl)
theorem dX2_init_10 : decode cX2_init 10 = .ok (.new 15, 3) := dk_187 0 15 (dk_at dksX2_init_0 10 rfl rfl)
theorem dX2_init_13 : decode cX2_init 13 = .ok (.dup, 1) := dk_89 (dk_at dksX2_init_0 13 rfl rfl)
theorem dX2_init_14 : decode cX2_init 14 = .ok (.invokespecial 17, 3) := dk_183 0 17 (dk_at dksX2_init_0 14 rfl rfl)
theorem dX2_init_17 : decode cX2_init 17 = .ok (.putfield 18, 3) := dk_181 0 18 (dk_at dksX2_init_0 17 rfl rfl)
theorem dX2_init_20 : decode cX2_init 20 = .ok (.return_, 1) := dk_177 (dk_at dksX2_init_0 20 rfl rfl)
abbrev cX2_all : ByteArray := prog_17_method_16_code
def yX2_all : MethodName := ⟨RX2, "all", "(I)LFourOnOne$House;"⟩
def dkwX2_all_4 : List UInt8 := [180, 0, 61, 182, 0, 133, 42, 16, 59, 182, 0, 137, 167, 255, 178, 42, 180, 0, 103, 176]
abbrev dktX2_all_4 : List UInt8 := dkwX2_all_4 ++ []
def dkwX2_all_3 : List UInt8 := [181, 0, 122, 42, 182, 0, 70, 77, 42, 44, 42, 180, 0, 61, 182, 0, 129, 154, 0, 12, 42, 44, 42]
abbrev dktX2_all_3 : List UInt8 := dkwX2_all_3 ++ dktX2_all_4
def dkwX2_all_2 : List UInt8 := [4, 167, 0, 4, 3, 42, 180, 0, 36, 182, 0, 125, 42, 180, 0, 103, 89, 180, 0, 122, 4, 96]
abbrev dktX2_all_2 : List UInt8 := dkwX2_all_2 ++ dktX2_all_3
def dkwX2_all_1 : List UInt8 := [181, 0, 119, 42, 182, 0, 43, 2, 159, 0, 76, 42, 42, 180, 0, 103, 180, 0, 122, 16, 80, 160, 0, 7]
abbrev dktX2_all_1 : List UInt8 := dkwX2_all_1 ++ dktX2_all_2
def dkwX2_all_0 : List UInt8 := [42, 187, 0, 108, 89, 183, 0, 118, 181, 0, 103, 42, 27, 181, 0, 29, 42, 3, 181, 0, 36, 42, 3]
abbrev dktX2_all_0 : List UInt8 := dkwX2_all_0 ++ dktX2_all_1
theorem dksX2_all_0 : cX2_all.data.toList.drop 0 = dktX2_all_0 := by decide +kernel
theorem dksX2_all_1 : cX2_all.data.toList.drop 23 = dktX2_all_1 := dk_seg dksX2_all_0 23 rfl rfl
theorem dksX2_all_2 : cX2_all.data.toList.drop 47 = dktX2_all_2 := dk_seg dksX2_all_1 24 rfl rfl
theorem dksX2_all_3 : cX2_all.data.toList.drop 69 = dktX2_all_3 := dk_seg dksX2_all_2 22 rfl rfl
theorem dksX2_all_4 : cX2_all.data.toList.drop 92 = dktX2_all_4 := dk_seg dksX2_all_3 23 rfl rfl
theorem dX2_all_0 : decode cX2_all 0 = .ok (.aload_n 0, 1) := dk_42 (dk_at dksX2_all_0 0 rfl rfl)
theorem dX2_all_1 : decode cX2_all 1 = .ok (.new 108, 3) := dk_187 0 108 (dk_at dksX2_all_0 1 rfl rfl)
theorem dX2_all_4 : decode cX2_all 4 = .ok (.dup, 1) := dk_89 (dk_at dksX2_all_0 4 rfl rfl)
theorem dX2_all_5 : decode cX2_all 5 = .ok (.invokespecial 118, 3) := dk_183 0 118 (dk_at dksX2_all_0 5 rfl rfl)
theorem dX2_all_8 : decode cX2_all 8 = .ok (.putfield 103, 3) := dk_181 0 103 (dk_at dksX2_all_0 8 rfl rfl)
theorem dX2_all_11 : decode cX2_all 11 = .ok (.aload_n 0, 1) := dk_42 (dk_at dksX2_all_0 11 rfl rfl)
theorem dX2_all_12 : decode cX2_all 12 = .ok (.iload_n 1, 1) := dk_27 (dk_at dksX2_all_0 12 rfl rfl)
theorem dX2_all_13 : decode cX2_all 13 = .ok (.putfield 29, 3) := dk_181 0 29 (dk_at dksX2_all_0 13 rfl rfl)
theorem dX2_all_16 : decode cX2_all 16 = .ok (.aload_n 0, 1) := dk_42 (dk_at dksX2_all_0 16 rfl rfl)
theorem dX2_all_17 : decode cX2_all 17 = .ok (.iconst 0, 1) := dk_3 (dk_at dksX2_all_0 17 rfl rfl)
theorem dX2_all_18 : decode cX2_all 18 = .ok (.putfield 36, 3) := dk_181 0 36 (dk_at dksX2_all_0 18 rfl rfl)
theorem dX2_all_21 : decode cX2_all 21 = .ok (.aload_n 0, 1) := dk_42 (dk_at dksX2_all_0 21 rfl rfl)
theorem dX2_all_22 : decode cX2_all 22 = .ok (.iconst 0, 1) := dk_3 (dk_at dksX2_all_0 22 rfl rfl)
theorem dX2_all_23 : decode cX2_all 23 = .ok (.putfield 119, 3) := dk_181 0 119 (dk_at dksX2_all_1 0 rfl rfl)
theorem dX2_all_26 : decode cX2_all 26 = .ok (.aload_n 0, 1) := dk_42 (dk_at dksX2_all_1 3 rfl rfl)
theorem dX2_all_27 : decode cX2_all 27 = .ok (.invokevirtual 43, 3) := dk_182 0 43 (dk_at dksX2_all_1 4 rfl rfl)
theorem dX2_all_30 : decode cX2_all 30 = .ok (.iconst (-1), 1) := dk_2 (dk_at dksX2_all_1 7 rfl rfl)
theorem dX2_all_31 : decode cX2_all 31 = .ok (.if_icmp .eq 76, 3) := dk_159 0 76 (dk_at dksX2_all_1 8 rfl rfl)
theorem dX2_all_34 : decode cX2_all 34 = .ok (.aload_n 0, 1) := dk_42 (dk_at dksX2_all_1 11 rfl rfl)
theorem dX2_all_35 : decode cX2_all 35 = .ok (.aload_n 0, 1) := dk_42 (dk_at dksX2_all_1 12 rfl rfl)
theorem dX2_all_36 : decode cX2_all 36 = .ok (.getfield 103, 3) := dk_180 0 103 (dk_at dksX2_all_1 13 rfl rfl)
theorem dX2_all_39 : decode cX2_all 39 = .ok (.getfield 122, 3) := dk_180 0 122 (dk_at dksX2_all_1 16 rfl rfl)
theorem dX2_all_42 : decode cX2_all 42 = .ok (.bipush 80, 2) := dk_16 80 (dk_at dksX2_all_1 19 rfl rfl)
theorem dX2_all_44 : decode cX2_all 44 = .ok (.if_icmp .ne 7, 3) := dk_160 0 7 (dk_at dksX2_all_1 21 rfl rfl)
theorem dX2_all_47 : decode cX2_all 47 = .ok (.iconst 1, 1) := dk_4 (dk_at dksX2_all_2 0 rfl rfl)
theorem dX2_all_48 : decode cX2_all 48 = .ok (.goto 4, 3) := dk_167 0 4 (dk_at dksX2_all_2 1 rfl rfl)
theorem dX2_all_51 : decode cX2_all 51 = .ok (.iconst 0, 1) := dk_3 (dk_at dksX2_all_2 4 rfl rfl)
theorem dX2_all_52 : decode cX2_all 52 = .ok (.aload_n 0, 1) := dk_42 (dk_at dksX2_all_2 5 rfl rfl)
theorem dX2_all_53 : decode cX2_all 53 = .ok (.getfield 36, 3) := dk_180 0 36 (dk_at dksX2_all_2 6 rfl rfl)
theorem dX2_all_56 : decode cX2_all 56 = .ok (.invokevirtual 125, 3) := dk_182 0 125 (dk_at dksX2_all_2 9 rfl rfl)
theorem dX2_all_59 : decode cX2_all 59 = .ok (.aload_n 0, 1) := dk_42 (dk_at dksX2_all_2 12 rfl rfl)
theorem dX2_all_60 : decode cX2_all 60 = .ok (.getfield 103, 3) := dk_180 0 103 (dk_at dksX2_all_2 13 rfl rfl)
theorem dX2_all_63 : decode cX2_all 63 = .ok (.dup, 1) := dk_89 (dk_at dksX2_all_2 16 rfl rfl)
theorem dX2_all_64 : decode cX2_all 64 = .ok (.getfield 122, 3) := dk_180 0 122 (dk_at dksX2_all_2 17 rfl rfl)
theorem dX2_all_67 : decode cX2_all 67 = .ok (.iconst 1, 1) := dk_4 (dk_at dksX2_all_2 20 rfl rfl)
theorem dX2_all_68 : decode cX2_all 68 = .ok (.iadd, 1) := dk_96 (dk_at dksX2_all_2 21 rfl rfl)
theorem dX2_all_69 : decode cX2_all 69 = .ok (.putfield 122, 3) := dk_181 0 122 (dk_at dksX2_all_3 0 rfl rfl)
theorem dX2_all_72 : decode cX2_all 72 = .ok (.aload_n 0, 1) := dk_42 (dk_at dksX2_all_3 3 rfl rfl)
theorem dX2_all_73 : decode cX2_all 73 = .ok (.invokevirtual 70, 3) := dk_182 0 70 (dk_at dksX2_all_3 4 rfl rfl)
theorem dX2_all_76 : decode cX2_all 76 = .ok (.astore_n 2, 1) := dk_77 (dk_at dksX2_all_3 7 rfl rfl)
theorem dX2_all_77 : decode cX2_all 77 = .ok (.aload_n 0, 1) := dk_42 (dk_at dksX2_all_3 8 rfl rfl)
theorem dX2_all_78 : decode cX2_all 78 = .ok (.aload_n 2, 1) := dk_44 (dk_at dksX2_all_3 9 rfl rfl)
theorem dX2_all_79 : decode cX2_all 79 = .ok (.aload_n 0, 1) := dk_42 (dk_at dksX2_all_3 10 rfl rfl)
theorem dX2_all_80 : decode cX2_all 80 = .ok (.getfield 61, 3) := dk_180 0 61 (dk_at dksX2_all_3 11 rfl rfl)
theorem dX2_all_83 : decode cX2_all 83 = .ok (.invokevirtual 129, 3) := dk_182 0 129 (dk_at dksX2_all_3 14 rfl rfl)
theorem dX2_all_86 : decode cX2_all 86 = .ok (.ifCond .ne 12, 3) := dk_154 0 12 (dk_at dksX2_all_3 17 rfl rfl)
theorem dX2_all_89 : decode cX2_all 89 = .ok (.aload_n 0, 1) := dk_42 (dk_at dksX2_all_3 20 rfl rfl)
theorem dX2_all_90 : decode cX2_all 90 = .ok (.aload_n 2, 1) := dk_44 (dk_at dksX2_all_3 21 rfl rfl)
theorem dX2_all_91 : decode cX2_all 91 = .ok (.aload_n 0, 1) := dk_42 (dk_at dksX2_all_3 22 rfl rfl)
theorem dX2_all_92 : decode cX2_all 92 = .ok (.getfield 61, 3) := dk_180 0 61 (dk_at dksX2_all_4 0 rfl rfl)
theorem dX2_all_95 : decode cX2_all 95 = .ok (.invokevirtual 133, 3) := dk_182 0 133 (dk_at dksX2_all_4 3 rfl rfl)
theorem dX2_all_98 : decode cX2_all 98 = .ok (.aload_n 0, 1) := dk_42 (dk_at dksX2_all_4 6 rfl rfl)
theorem dX2_all_99 : decode cX2_all 99 = .ok (.bipush 59, 2) := dk_16 59 (dk_at dksX2_all_4 7 rfl rfl)
theorem dX2_all_101 : decode cX2_all 101 = .ok (.invokevirtual 137, 3) := dk_182 0 137 (dk_at dksX2_all_4 9 rfl rfl)
theorem dX2_all_104 : decode cX2_all 104 = .ok (.goto (-78), 3) := dk_167 255 178 (dk_at dksX2_all_4 12 rfl rfl)
theorem dX2_all_107 : decode cX2_all 107 = .ok (.aload_n 0, 1) := dk_42 (dk_at dksX2_all_4 15 rfl rfl)
theorem dX2_all_108 : decode cX2_all 108 = .ok (.getfield 103, 3) := dk_180 0 103 (dk_at dksX2_all_4 16 rfl rfl)
theorem dX2_all_111 : decode cX2_all 111 = .ok (.areturn, 1) := dk_176 (dk_at dksX2_all_4 19 rfl rfl)
abbrev cX2_here : ByteArray := prog_17_method_4_code
def yX2_here : MethodName := ⟨RX2, "here", "()I"⟩
def dkwX2_here_2 : List UInt8 := [172]
abbrev dktX2_here_2 : List UInt8 := dkwX2_here_2 ++ []
def dkwX2_here_1 : List UInt8 := [160, 0, 16, 42, 89, 180, 0, 36, 4, 96, 181, 0, 36, 167, 255, 220, 42, 42, 180, 0, 36, 182, 0, 39]
abbrev dktX2_here_1 : List UInt8 := dkwX2_here_1 ++ dktX2_here_2
def dkwX2_here_0 : List UInt8 := [42, 42, 180, 0, 36, 182, 0, 39, 16, 32, 159, 0, 16, 42, 42, 180, 0, 36, 182, 0, 39, 16, 10]
abbrev dktX2_here_0 : List UInt8 := dkwX2_here_0 ++ dktX2_here_1
theorem dksX2_here_0 : cX2_here.data.toList.drop 0 = dktX2_here_0 := by decide +kernel
theorem dksX2_here_1 : cX2_here.data.toList.drop 23 = dktX2_here_1 := dk_seg dksX2_here_0 23 rfl rfl
theorem dksX2_here_2 : cX2_here.data.toList.drop 47 = dktX2_here_2 := dk_seg dksX2_here_1 24 rfl rfl
theorem dX2_here_0 : decode cX2_here 0 = .ok (.aload_n 0, 1) := dk_42 (dk_at dksX2_here_0 0 rfl rfl)
theorem dX2_here_1 : decode cX2_here 1 = .ok (.aload_n 0, 1) := dk_42 (dk_at dksX2_here_0 1 rfl rfl)
theorem dX2_here_2 : decode cX2_here 2 = .ok (.getfield 36, 3) := dk_180 0 36 (dk_at dksX2_here_0 2 rfl rfl)
theorem dX2_here_5 : decode cX2_here 5 = .ok (.invokevirtual 39, 3) := dk_182 0 39 (dk_at dksX2_here_0 5 rfl rfl)
theorem dX2_here_8 : decode cX2_here 8 = .ok (.bipush 32, 2) := dk_16 32 (dk_at dksX2_here_0 8 rfl rfl)
theorem dX2_here_10 : decode cX2_here 10 = .ok (.if_icmp .eq 16, 3) := dk_159 0 16 (dk_at dksX2_here_0 10 rfl rfl)
theorem dX2_here_13 : decode cX2_here 13 = .ok (.aload_n 0, 1) := dk_42 (dk_at dksX2_here_0 13 rfl rfl)
theorem dX2_here_14 : decode cX2_here 14 = .ok (.aload_n 0, 1) := dk_42 (dk_at dksX2_here_0 14 rfl rfl)
theorem dX2_here_15 : decode cX2_here 15 = .ok (.getfield 36, 3) := dk_180 0 36 (dk_at dksX2_here_0 15 rfl rfl)
theorem dX2_here_18 : decode cX2_here 18 = .ok (.invokevirtual 39, 3) := dk_182 0 39 (dk_at dksX2_here_0 18 rfl rfl)
theorem dX2_here_21 : decode cX2_here 21 = .ok (.bipush 10, 2) := dk_16 10 (dk_at dksX2_here_0 21 rfl rfl)
theorem dX2_here_23 : decode cX2_here 23 = .ok (.if_icmp .ne 16, 3) := dk_160 0 16 (dk_at dksX2_here_1 0 rfl rfl)
theorem dX2_here_26 : decode cX2_here 26 = .ok (.aload_n 0, 1) := dk_42 (dk_at dksX2_here_1 3 rfl rfl)
theorem dX2_here_27 : decode cX2_here 27 = .ok (.dup, 1) := dk_89 (dk_at dksX2_here_1 4 rfl rfl)
theorem dX2_here_28 : decode cX2_here 28 = .ok (.getfield 36, 3) := dk_180 0 36 (dk_at dksX2_here_1 5 rfl rfl)
theorem dX2_here_31 : decode cX2_here 31 = .ok (.iconst 1, 1) := dk_4 (dk_at dksX2_here_1 8 rfl rfl)
theorem dX2_here_32 : decode cX2_here 32 = .ok (.iadd, 1) := dk_96 (dk_at dksX2_here_1 9 rfl rfl)
theorem dX2_here_33 : decode cX2_here 33 = .ok (.putfield 36, 3) := dk_181 0 36 (dk_at dksX2_here_1 10 rfl rfl)
theorem dX2_here_36 : decode cX2_here 36 = .ok (.goto (-36), 3) := dk_167 255 220 (dk_at dksX2_here_1 13 rfl rfl)
theorem dX2_here_39 : decode cX2_here 39 = .ok (.aload_n 0, 1) := dk_42 (dk_at dksX2_here_1 16 rfl rfl)
theorem dX2_here_40 : decode cX2_here 40 = .ok (.aload_n 0, 1) := dk_42 (dk_at dksX2_here_1 17 rfl rfl)
theorem dX2_here_41 : decode cX2_here 41 = .ok (.getfield 36, 3) := dk_180 0 36 (dk_at dksX2_here_1 18 rfl rfl)
theorem dX2_here_44 : decode cX2_here 44 = .ok (.invokevirtual 39, 3) := dk_182 0 39 (dk_at dksX2_here_1 21 rfl rfl)
theorem dX2_here_47 : decode cX2_here 47 = .ok (.ireturn, 1) := dk_172 (dk_at dksX2_here_2 0 rfl rfl)
abbrev cX2_byteAt : ByteArray := prog_17_method_3_code
def yX2_byteAt : MethodName := ⟨RX2, "byteAt", "(I)I"⟩
def dkwX2_byteAt_1 : List UInt8 := [126, 167, 0, 4, 2, 172]
abbrev dktX2_byteAt_1 : List UInt8 := dkwX2_byteAt_1 ++ []
def dkwX2_byteAt_0 : List UInt8 := [27, 155, 0, 27, 27, 42, 180, 0, 29, 162, 0, 19, 42, 180, 0, 3, 180, 0, 32, 27, 51, 17, 0, 255]
abbrev dktX2_byteAt_0 : List UInt8 := dkwX2_byteAt_0 ++ dktX2_byteAt_1
theorem dksX2_byteAt_0 : cX2_byteAt.data.toList.drop 0 = dktX2_byteAt_0 := by decide +kernel
theorem dksX2_byteAt_1 : cX2_byteAt.data.toList.drop 24 = dktX2_byteAt_1 := dk_seg dksX2_byteAt_0 24 rfl rfl
theorem dX2_byteAt_0 : decode cX2_byteAt 0 = .ok (.iload_n 1, 1) := dk_27 (dk_at dksX2_byteAt_0 0 rfl rfl)
theorem dX2_byteAt_1 : decode cX2_byteAt 1 = .ok (.ifCond .lt 27, 3) := dk_155 0 27 (dk_at dksX2_byteAt_0 1 rfl rfl)
theorem dX2_byteAt_4 : decode cX2_byteAt 4 = .ok (.iload_n 1, 1) := dk_27 (dk_at dksX2_byteAt_0 4 rfl rfl)
theorem dX2_byteAt_5 : decode cX2_byteAt 5 = .ok (.aload_n 0, 1) := dk_42 (dk_at dksX2_byteAt_0 5 rfl rfl)
theorem dX2_byteAt_6 : decode cX2_byteAt 6 = .ok (.getfield 29, 3) := dk_180 0 29 (dk_at dksX2_byteAt_0 6 rfl rfl)
theorem dX2_byteAt_9 : decode cX2_byteAt 9 = .ok (.if_icmp .ge 19, 3) := dk_162 0 19 (dk_at dksX2_byteAt_0 9 rfl rfl)
theorem dX2_byteAt_12 : decode cX2_byteAt 12 = .ok (.aload_n 0, 1) := dk_42 (dk_at dksX2_byteAt_0 12 rfl rfl)
theorem dX2_byteAt_13 : decode cX2_byteAt 13 = .ok (.getfield 3, 3) := dk_180 0 3 (dk_at dksX2_byteAt_0 13 rfl rfl)
theorem dX2_byteAt_16 : decode cX2_byteAt 16 = .ok (.getfield 32, 3) := dk_180 0 32 (dk_at dksX2_byteAt_0 16 rfl rfl)
theorem dX2_byteAt_19 : decode cX2_byteAt 19 = .ok (.iload_n 1, 1) := dk_27 (dk_at dksX2_byteAt_0 19 rfl rfl)
theorem dX2_byteAt_20 : decode cX2_byteAt 20 = .ok (.baload, 1) := dk_51 (dk_at dksX2_byteAt_0 20 rfl rfl)
theorem dX2_byteAt_21 : decode cX2_byteAt 21 = .ok (.sipush 255, 3) := dk_17 0 255 (dk_at dksX2_byteAt_0 21 rfl rfl)
theorem dX2_byteAt_24 : decode cX2_byteAt 24 = .ok (.iand, 1) := dk_126 (dk_at dksX2_byteAt_1 0 rfl rfl)
theorem dX2_byteAt_25 : decode cX2_byteAt 25 = .ok (.goto 4, 3) := dk_167 0 4 (dk_at dksX2_byteAt_1 1 rfl rfl)
theorem dX2_byteAt_28 : decode cX2_byteAt 28 = .ok (.iconst (-1), 1) := dk_2 (dk_at dksX2_byteAt_1 4 rfl rfl)
theorem dX2_byteAt_29 : decode cX2_byteAt 29 = .ok (.ireturn, 1) := dk_172 (dk_at dksX2_byteAt_1 5 rfl rfl)
abbrev cX2_most : ByteArray := prog_17_method_15_code
def yX2_most : MethodName := ⟨RX2, "most", "(ZI)V"⟩
def dkwX2_most_0 : List UInt8 := [27, 153, 0, 10, 42, 8, 28, 182, 0, 47, 191, 177]
abbrev dktX2_most_0 : List UInt8 := dkwX2_most_0 ++ []
theorem dksX2_most_0 : cX2_most.data.toList.drop 0 = dktX2_most_0 := by decide +kernel
theorem dX2_most_0 : decode cX2_most 0 = .ok (.iload_n 1, 1) := dk_27 (dk_at dksX2_most_0 0 rfl rfl)
theorem dX2_most_1 : decode cX2_most 1 = .ok (.ifCond .eq 10, 3) := dk_153 0 10 (dk_at dksX2_most_0 1 rfl rfl)
theorem dX2_most_4 : decode cX2_most 4 = .ok (.aload_n 0, 1) := dk_42 (dk_at dksX2_most_0 4 rfl rfl)
theorem dX2_most_5 : decode cX2_most 5 = .ok (.iconst 5, 1) := dk_8 (dk_at dksX2_most_0 5 rfl rfl)
theorem dX2_most_6 : decode cX2_most 6 = .ok (.iload_n 2, 1) := dk_28 (dk_at dksX2_most_0 6 rfl rfl)
theorem dX2_most_7 : decode cX2_most 7 = .ok (.invokevirtual 47, 3) := dk_182 0 47 (dk_at dksX2_most_0 7 rfl rfl)
theorem dX2_most_10 : decode cX2_most 10 = .ok (.athrow, 1) := dk_191 (dk_at dksX2_most_0 10 rfl rfl)
theorem dX2_most_11 : decode cX2_most 11 = .ok (.return_, 1) := dk_177 (dk_at dksX2_most_0 11 rfl rfl)
abbrev cX2_wrong : ByteArray := prog_17_method_2_code
def yX2_wrong : MethodName := ⟨RX2, "wrong", "(II)LFourOnOne$Fault;"⟩
def dkwX2_wrong_0 : List UInt8 := [42, 180, 0, 18, 27, 181, 0, 22, 42, 180, 0, 18, 28, 181, 0, 26, 42, 180, 0, 18, 176]
abbrev dktX2_wrong_0 : List UInt8 := dkwX2_wrong_0 ++ []
theorem dksX2_wrong_0 : cX2_wrong.data.toList.drop 0 = dktX2_wrong_0 := by decide +kernel
theorem dX2_wrong_0 : decode cX2_wrong 0 = .ok (.aload_n 0, 1) := dk_42 (dk_at dksX2_wrong_0 0 rfl rfl)
theorem dX2_wrong_1 : decode cX2_wrong 1 = .ok (.getfield 18, 3) := dk_180 0 18 (dk_at dksX2_wrong_0 1 rfl rfl)
theorem dX2_wrong_4 : decode cX2_wrong 4 = .ok (.iload_n 1, 1) := dk_27 (dk_at dksX2_wrong_0 4 rfl rfl)
theorem dX2_wrong_5 : decode cX2_wrong 5 = .ok (.putfield 22, 3) := dk_181 0 22 (dk_at dksX2_wrong_0 5 rfl rfl)
theorem dX2_wrong_8 : decode cX2_wrong 8 = .ok (.aload_n 0, 1) := dk_42 (dk_at dksX2_wrong_0 8 rfl rfl)
theorem dX2_wrong_9 : decode cX2_wrong 9 = .ok (.getfield 18, 3) := dk_180 0 18 (dk_at dksX2_wrong_0 9 rfl rfl)
theorem dX2_wrong_12 : decode cX2_wrong 12 = .ok (.iload_n 2, 1) := dk_28 (dk_at dksX2_wrong_0 12 rfl rfl)
theorem dX2_wrong_13 : decode cX2_wrong 13 = .ok (.putfield 26, 3) := dk_181 0 26 (dk_at dksX2_wrong_0 13 rfl rfl)
theorem dX2_wrong_16 : decode cX2_wrong 16 = .ok (.aload_n 0, 1) := dk_42 (dk_at dksX2_wrong_0 16 rfl rfl)
theorem dX2_wrong_17 : decode cX2_wrong 17 = .ok (.getfield 18, 3) := dk_180 0 18 (dk_at dksX2_wrong_0 17 rfl rfl)
theorem dX2_wrong_20 : decode cX2_wrong 20 = .ok (.areturn, 1) := dk_176 (dk_at dksX2_wrong_0 20 rfl rfl)
abbrev cX2_word : ByteArray := prog_17_method_7_code
def yX2_word : MethodName := ⟨RX2, "word", "()Ljava/lang/String;"⟩
def dkwX2_word_4 : List UInt8 := [180, 0, 32, 28, 51, 146, 85, 132, 2, 1, 167, 255, 227, 43, 184, 0, 64, 176]
abbrev dktX2_word_4 : List UInt8 := dkwX2_word_4 ++ []
def dkwX2_word_3 : List UInt8 := [180, 0, 61, 61, 28, 42, 180, 0, 36, 162, 0, 27, 43, 28, 42, 180, 0, 61, 100, 42, 180, 0, 3]
abbrev dktX2_word_3 : List UInt8 := dkwX2_word_3 ++ dktX2_word_4
def dkwX2_word_2 : List UInt8 := [180, 0, 36, 4, 96, 181, 0, 36, 167, 255, 232, 42, 180, 0, 36, 42, 180, 0, 61, 100, 188, 5, 76, 42]
abbrev dktX2_word_2 : List UInt8 := dkwX2_word_2 ++ dktX2_word_3
def dkwX2_word_1 : List UInt8 := [42, 42, 180, 0, 36, 181, 0, 61, 42, 42, 180, 0, 36, 182, 0, 39, 184, 0, 51, 153, 0, 16, 42, 89]
abbrev dktX2_word_1 : List UInt8 := dkwX2_word_1 ++ dktX2_word_2
def dkwX2_word_0 : List UInt8 := [42, 182, 0, 43, 184, 0, 51, 154, 0, 13, 42, 4, 42, 180, 0, 36, 182, 0, 47, 191, 42, 182, 0, 58]
abbrev dktX2_word_0 : List UInt8 := dkwX2_word_0 ++ dktX2_word_1
theorem dksX2_word_0 : cX2_word.data.toList.drop 0 = dktX2_word_0 := by decide +kernel
theorem dksX2_word_1 : cX2_word.data.toList.drop 24 = dktX2_word_1 := dk_seg dksX2_word_0 24 rfl rfl
theorem dksX2_word_2 : cX2_word.data.toList.drop 48 = dktX2_word_2 := dk_seg dksX2_word_1 24 rfl rfl
theorem dksX2_word_3 : cX2_word.data.toList.drop 72 = dktX2_word_3 := dk_seg dksX2_word_2 24 rfl rfl
theorem dksX2_word_4 : cX2_word.data.toList.drop 95 = dktX2_word_4 := dk_seg dksX2_word_3 23 rfl rfl
theorem dX2_word_0 : decode cX2_word 0 = .ok (.aload_n 0, 1) := dk_42 (dk_at dksX2_word_0 0 rfl rfl)
theorem dX2_word_1 : decode cX2_word 1 = .ok (.invokevirtual 43, 3) := dk_182 0 43 (dk_at dksX2_word_0 1 rfl rfl)
theorem dX2_word_4 : decode cX2_word 4 = .ok (.invokestatic 51, 3) := dk_184 0 51 (dk_at dksX2_word_0 4 rfl rfl)
theorem dX2_word_7 : decode cX2_word 7 = .ok (.ifCond .ne 13, 3) := dk_154 0 13 (dk_at dksX2_word_0 7 rfl rfl)
theorem dX2_word_10 : decode cX2_word 10 = .ok (.aload_n 0, 1) := dk_42 (dk_at dksX2_word_0 10 rfl rfl)
theorem dX2_word_11 : decode cX2_word 11 = .ok (.iconst 1, 1) := dk_4 (dk_at dksX2_word_0 11 rfl rfl)
theorem dX2_word_12 : decode cX2_word 12 = .ok (.aload_n 0, 1) := dk_42 (dk_at dksX2_word_0 12 rfl rfl)
theorem dX2_word_13 : decode cX2_word 13 = .ok (.getfield 36, 3) := dk_180 0 36 (dk_at dksX2_word_0 13 rfl rfl)
theorem dX2_word_16 : decode cX2_word 16 = .ok (.invokevirtual 47, 3) := dk_182 0 47 (dk_at dksX2_word_0 16 rfl rfl)
theorem dX2_word_19 : decode cX2_word 19 = .ok (.athrow, 1) := dk_191 (dk_at dksX2_word_0 19 rfl rfl)
theorem dX2_word_20 : decode cX2_word 20 = .ok (.aload_n 0, 1) := dk_42 (dk_at dksX2_word_0 20 rfl rfl)
theorem dX2_word_21 : decode cX2_word 21 = .ok (.invokevirtual 58, 3) := dk_182 0 58 (dk_at dksX2_word_0 21 rfl rfl)
theorem dX2_word_24 : decode cX2_word 24 = .ok (.aload_n 0, 1) := dk_42 (dk_at dksX2_word_1 0 rfl rfl)
theorem dX2_word_25 : decode cX2_word 25 = .ok (.aload_n 0, 1) := dk_42 (dk_at dksX2_word_1 1 rfl rfl)
theorem dX2_word_26 : decode cX2_word 26 = .ok (.getfield 36, 3) := dk_180 0 36 (dk_at dksX2_word_1 2 rfl rfl)
theorem dX2_word_29 : decode cX2_word 29 = .ok (.putfield 61, 3) := dk_181 0 61 (dk_at dksX2_word_1 5 rfl rfl)
theorem dX2_word_32 : decode cX2_word 32 = .ok (.aload_n 0, 1) := dk_42 (dk_at dksX2_word_1 8 rfl rfl)
theorem dX2_word_33 : decode cX2_word 33 = .ok (.aload_n 0, 1) := dk_42 (dk_at dksX2_word_1 9 rfl rfl)
theorem dX2_word_34 : decode cX2_word 34 = .ok (.getfield 36, 3) := dk_180 0 36 (dk_at dksX2_word_1 10 rfl rfl)
theorem dX2_word_37 : decode cX2_word 37 = .ok (.invokevirtual 39, 3) := dk_182 0 39 (dk_at dksX2_word_1 13 rfl rfl)
theorem dX2_word_40 : decode cX2_word 40 = .ok (.invokestatic 51, 3) := dk_184 0 51 (dk_at dksX2_word_1 16 rfl rfl)
theorem dX2_word_43 : decode cX2_word 43 = .ok (.ifCond .eq 16, 3) := dk_153 0 16 (dk_at dksX2_word_1 19 rfl rfl)
theorem dX2_word_46 : decode cX2_word 46 = .ok (.aload_n 0, 1) := dk_42 (dk_at dksX2_word_1 22 rfl rfl)
theorem dX2_word_47 : decode cX2_word 47 = .ok (.dup, 1) := dk_89 (dk_at dksX2_word_1 23 rfl rfl)
theorem dX2_word_48 : decode cX2_word 48 = .ok (.getfield 36, 3) := dk_180 0 36 (dk_at dksX2_word_2 0 rfl rfl)
theorem dX2_word_51 : decode cX2_word 51 = .ok (.iconst 1, 1) := dk_4 (dk_at dksX2_word_2 3 rfl rfl)
theorem dX2_word_52 : decode cX2_word 52 = .ok (.iadd, 1) := dk_96 (dk_at dksX2_word_2 4 rfl rfl)
theorem dX2_word_53 : decode cX2_word 53 = .ok (.putfield 36, 3) := dk_181 0 36 (dk_at dksX2_word_2 5 rfl rfl)
theorem dX2_word_56 : decode cX2_word 56 = .ok (.goto (-24), 3) := dk_167 255 232 (dk_at dksX2_word_2 8 rfl rfl)
theorem dX2_word_59 : decode cX2_word 59 = .ok (.aload_n 0, 1) := dk_42 (dk_at dksX2_word_2 11 rfl rfl)
theorem dX2_word_60 : decode cX2_word 60 = .ok (.getfield 36, 3) := dk_180 0 36 (dk_at dksX2_word_2 12 rfl rfl)
theorem dX2_word_63 : decode cX2_word 63 = .ok (.aload_n 0, 1) := dk_42 (dk_at dksX2_word_2 15 rfl rfl)
theorem dX2_word_64 : decode cX2_word 64 = .ok (.getfield 61, 3) := dk_180 0 61 (dk_at dksX2_word_2 16 rfl rfl)
theorem dX2_word_67 : decode cX2_word 67 = .ok (.isub, 1) := dk_100 (dk_at dksX2_word_2 19 rfl rfl)
theorem dX2_word_68 : decode cX2_word 68 = .ok (.newarray .char, 2) := dk_188_5 (dk_at dksX2_word_2 20 rfl rfl)
theorem dX2_word_70 : decode cX2_word 70 = .ok (.astore_n 1, 1) := dk_76 (dk_at dksX2_word_2 22 rfl rfl)
theorem dX2_word_71 : decode cX2_word 71 = .ok (.aload_n 0, 1) := dk_42 (dk_at dksX2_word_2 23 rfl rfl)
theorem dX2_word_72 : decode cX2_word 72 = .ok (.getfield 61, 3) := dk_180 0 61 (dk_at dksX2_word_3 0 rfl rfl)
theorem dX2_word_75 : decode cX2_word 75 = .ok (.istore_n 2, 1) := dk_61 (dk_at dksX2_word_3 3 rfl rfl)
theorem dX2_word_76 : decode cX2_word 76 = .ok (.iload_n 2, 1) := dk_28 (dk_at dksX2_word_3 4 rfl rfl)
theorem dX2_word_77 : decode cX2_word 77 = .ok (.aload_n 0, 1) := dk_42 (dk_at dksX2_word_3 5 rfl rfl)
theorem dX2_word_78 : decode cX2_word 78 = .ok (.getfield 36, 3) := dk_180 0 36 (dk_at dksX2_word_3 6 rfl rfl)
theorem dX2_word_81 : decode cX2_word 81 = .ok (.if_icmp .ge 27, 3) := dk_162 0 27 (dk_at dksX2_word_3 9 rfl rfl)
theorem dX2_word_84 : decode cX2_word 84 = .ok (.aload_n 1, 1) := dk_43 (dk_at dksX2_word_3 12 rfl rfl)
theorem dX2_word_85 : decode cX2_word 85 = .ok (.iload_n 2, 1) := dk_28 (dk_at dksX2_word_3 13 rfl rfl)
theorem dX2_word_86 : decode cX2_word 86 = .ok (.aload_n 0, 1) := dk_42 (dk_at dksX2_word_3 14 rfl rfl)
theorem dX2_word_87 : decode cX2_word 87 = .ok (.getfield 61, 3) := dk_180 0 61 (dk_at dksX2_word_3 15 rfl rfl)
theorem dX2_word_90 : decode cX2_word 90 = .ok (.isub, 1) := dk_100 (dk_at dksX2_word_3 18 rfl rfl)
theorem dX2_word_91 : decode cX2_word 91 = .ok (.aload_n 0, 1) := dk_42 (dk_at dksX2_word_3 19 rfl rfl)
theorem dX2_word_92 : decode cX2_word 92 = .ok (.getfield 3, 3) := dk_180 0 3 (dk_at dksX2_word_3 20 rfl rfl)
theorem dX2_word_95 : decode cX2_word 95 = .ok (.getfield 32, 3) := dk_180 0 32 (dk_at dksX2_word_4 0 rfl rfl)
theorem dX2_word_98 : decode cX2_word 98 = .ok (.iload_n 2, 1) := dk_28 (dk_at dksX2_word_4 3 rfl rfl)
theorem dX2_word_99 : decode cX2_word 99 = .ok (.baload, 1) := dk_51 (dk_at dksX2_word_4 4 rfl rfl)
theorem dX2_word_100 : decode cX2_word 100 = .ok (.i2c, 1) := dk_146 (dk_at dksX2_word_4 5 rfl rfl)
theorem dX2_word_101 : decode cX2_word 101 = .ok (.castore, 1) := dk_85 (dk_at dksX2_word_4 6 rfl rfl)
theorem dX2_word_102 : decode cX2_word 102 = .ok (.iinc 2 1, 3) := dk_132 2 1 (dk_at dksX2_word_4 7 rfl rfl)
theorem dX2_word_105 : decode cX2_word 105 = .ok (.goto (-29), 3) := dk_167 255 227 (dk_at dksX2_word_4 10 rfl rfl)
theorem dX2_word_108 : decode cX2_word 108 = .ok (.aload_n 1, 1) := dk_43 (dk_at dksX2_word_4 13 rfl rfl)
theorem dX2_word_109 : decode cX2_word 109 = .ok (.invokestatic 64, 3) := dk_184 0 64 (dk_at dksX2_word_4 14 rfl rfl)
theorem dX2_word_112 : decode cX2_word 112 = .ok (.areturn, 1) := dk_176 (dk_at dksX2_word_4 17 rfl rfl)
abbrev cX2_parted : ByteArray := prog_17_method_6_code
def yX2_parted : MethodName := ⟨RX2, "parted", "()V"⟩
def dkwX2_parted_1 : List UInt8 := [182, 0, 39, 184, 0, 55, 153, 0, 13, 42, 4, 42, 180, 0, 36, 182, 0, 47, 191, 177]
abbrev dktX2_parted_1 : List UInt8 := dkwX2_parted_1 ++ []
def dkwX2_parted_0 : List UInt8 := [42, 42, 180, 0, 36, 4, 100, 182, 0, 39, 184, 0, 51, 154, 0, 19, 42, 42, 180, 0, 36, 4, 100]
abbrev dktX2_parted_0 : List UInt8 := dkwX2_parted_0 ++ dktX2_parted_1
theorem dksX2_parted_0 : cX2_parted.data.toList.drop 0 = dktX2_parted_0 := by decide +kernel
theorem dksX2_parted_1 : cX2_parted.data.toList.drop 23 = dktX2_parted_1 := dk_seg dksX2_parted_0 23 rfl rfl
theorem dX2_parted_0 : decode cX2_parted 0 = .ok (.aload_n 0, 1) := dk_42 (dk_at dksX2_parted_0 0 rfl rfl)
theorem dX2_parted_1 : decode cX2_parted 1 = .ok (.aload_n 0, 1) := dk_42 (dk_at dksX2_parted_0 1 rfl rfl)
theorem dX2_parted_2 : decode cX2_parted 2 = .ok (.getfield 36, 3) := dk_180 0 36 (dk_at dksX2_parted_0 2 rfl rfl)
theorem dX2_parted_5 : decode cX2_parted 5 = .ok (.iconst 1, 1) := dk_4 (dk_at dksX2_parted_0 5 rfl rfl)
theorem dX2_parted_6 : decode cX2_parted 6 = .ok (.isub, 1) := dk_100 (dk_at dksX2_parted_0 6 rfl rfl)
theorem dX2_parted_7 : decode cX2_parted 7 = .ok (.invokevirtual 39, 3) := dk_182 0 39 (dk_at dksX2_parted_0 7 rfl rfl)
theorem dX2_parted_10 : decode cX2_parted 10 = .ok (.invokestatic 51, 3) := dk_184 0 51 (dk_at dksX2_parted_0 10 rfl rfl)
theorem dX2_parted_13 : decode cX2_parted 13 = .ok (.ifCond .ne 19, 3) := dk_154 0 19 (dk_at dksX2_parted_0 13 rfl rfl)
theorem dX2_parted_16 : decode cX2_parted 16 = .ok (.aload_n 0, 1) := dk_42 (dk_at dksX2_parted_0 16 rfl rfl)
theorem dX2_parted_17 : decode cX2_parted 17 = .ok (.aload_n 0, 1) := dk_42 (dk_at dksX2_parted_0 17 rfl rfl)
theorem dX2_parted_18 : decode cX2_parted 18 = .ok (.getfield 36, 3) := dk_180 0 36 (dk_at dksX2_parted_0 18 rfl rfl)
theorem dX2_parted_21 : decode cX2_parted 21 = .ok (.iconst 1, 1) := dk_4 (dk_at dksX2_parted_0 21 rfl rfl)
theorem dX2_parted_22 : decode cX2_parted 22 = .ok (.isub, 1) := dk_100 (dk_at dksX2_parted_0 22 rfl rfl)
theorem dX2_parted_23 : decode cX2_parted 23 = .ok (.invokevirtual 39, 3) := dk_182 0 39 (dk_at dksX2_parted_1 0 rfl rfl)
theorem dX2_parted_26 : decode cX2_parted 26 = .ok (.invokestatic 55, 3) := dk_184 0 55 (dk_at dksX2_parted_1 3 rfl rfl)
theorem dX2_parted_29 : decode cX2_parted 29 = .ok (.ifCond .eq 13, 3) := dk_153 0 13 (dk_at dksX2_parted_1 6 rfl rfl)
theorem dX2_parted_32 : decode cX2_parted 32 = .ok (.aload_n 0, 1) := dk_42 (dk_at dksX2_parted_1 9 rfl rfl)
theorem dX2_parted_33 : decode cX2_parted 33 = .ok (.iconst 1, 1) := dk_4 (dk_at dksX2_parted_1 10 rfl rfl)
theorem dX2_parted_34 : decode cX2_parted 34 = .ok (.aload_n 0, 1) := dk_42 (dk_at dksX2_parted_1 11 rfl rfl)
theorem dX2_parted_35 : decode cX2_parted 35 = .ok (.getfield 36, 3) := dk_180 0 36 (dk_at dksX2_parted_1 12 rfl rfl)
theorem dX2_parted_38 : decode cX2_parted 38 = .ok (.invokevirtual 47, 3) := dk_182 0 47 (dk_at dksX2_parted_1 15 rfl rfl)
theorem dX2_parted_41 : decode cX2_parted 41 = .ok (.athrow, 1) := dk_191 (dk_at dksX2_parted_1 18 rfl rfl)
theorem dX2_parted_42 : decode cX2_parted 42 = .ok (.return_, 1) := dk_177 (dk_at dksX2_parted_1 19 rfl rfl)
abbrev cX2_told : ByteArray := prog_17_method_17_code
def yX2_told : MethodName := ⟨RX2, "told", "(Ljava/lang/String;I)Z"⟩
def dkwX2_told_19 : List UInt8 := [181, 0, 198, 4, 172, 3, 172]
abbrev dktX2_told_19 : List UInt8 := dkwX2_told_19 ++ []
def dkwX2_told_18 : List UInt8 := [6, 42, 180, 0, 61, 182, 0, 47, 191, 42, 180, 0, 103, 89, 180, 0, 198, 4, 21, 9, 120, 128]
abbrev dktX2_told_18 : List UInt8 := dkwX2_told_18 ++ dktX2_told_19
def dkwX2_told_17 : List UInt8 := [180, 0, 174, 182, 0, 187, 54, 9, 42, 180, 0, 103, 180, 0, 198, 21, 9, 184, 0, 201, 153, 0, 13, 42]
abbrev dktX2_told_17 : List UInt8 := dkwX2_told_17 ++ dktX2_told_18
def dkwX2_told_16 : List UInt8 := [54, 8, 25, 7, 180, 0, 195, 21, 8, 42, 3, 16, 9, 182, 0, 96, 79, 4, 172, 42, 42, 180, 0, 103]
abbrev dktX2_told_16 : List UInt8 := dkwX2_told_16 ++ dktX2_told_17
def dkwX2_told_15 : List UInt8 := [182, 0, 187, 185, 0, 191, 2, 0, 192, 0, 181, 58, 7, 42, 42, 180, 0, 103, 180, 0, 153, 182, 0, 187]
abbrev dktX2_told_15 : List UInt8 := dkwX2_told_15 ++ dktX2_told_16
def dkwX2_told_14 : List UInt8 := [185, 0, 166, 2, 0, 87, 4, 172, 42, 180, 0, 103, 180, 0, 174, 42, 42, 180, 0, 103, 180, 0, 174]
abbrev dktX2_told_14 : List UInt8 := dkwX2_told_14 ++ dktX2_told_15
def dkwX2_told_13 : List UInt8 := [187, 0, 181, 89, 25, 5, 21, 6, 42, 18, 183, 21, 6, 16, 23, 182, 0, 178, 183, 0, 184]
abbrev dktX2_told_13 : List UInt8 := dkwX2_told_13 ++ dktX2_told_14
def dkwX2_told_12 : List UInt8 := [182, 0, 161, 58, 5, 42, 18, 177, 3, 16, 23, 182, 0, 178, 54, 6, 42, 180, 0, 103, 180, 0, 174]
abbrev dktX2_told_12 : List UInt8 := dkwX2_told_12 ++ dktX2_told_13
def dkwX2_told_11 : List UInt8 := [180, 0, 174, 185, 0, 157, 1, 0, 8, 160, 0, 7, 4, 167, 0, 4, 3, 28, 182, 0, 125, 42]
abbrev dktX2_told_11 : List UInt8 := dkwX2_told_11 ++ dktX2_told_12
def dkwX2_told_10 : List UInt8 := [160, 0, 7, 4, 167, 0, 4, 3, 28, 182, 0, 125, 42, 182, 0, 172, 4, 172, 42, 42, 180, 0, 103]
abbrev dktX2_told_10 : List UInt8 := dkwX2_told_10 ++ dktX2_told_11
def dkwX2_told_9 : List UInt8 := [185, 0, 166, 2, 0, 87, 4, 172, 42, 42, 180, 0, 103, 180, 0, 169, 185, 0, 157, 1, 0, 16, 8]
abbrev dktX2_told_9 : List UInt8 := dkwX2_told_9 ++ dktX2_told_10
def dkwX2_told_8 : List UInt8 := [182, 0, 125, 42, 180, 0, 103, 180, 0, 153, 187, 0, 114, 89, 42, 182, 0, 161, 183, 0, 164]
abbrev dktX2_told_8 : List UInt8 := dkwX2_told_8 ++ dktX2_told_9
def dkwX2_told_7 : List UInt8 := [42, 42, 180, 0, 103, 180, 0, 153, 185, 0, 157, 1, 0, 16, 6, 160, 0, 7, 4, 167, 0, 4, 3, 28]
abbrev dktX2_told_7 : List UInt8 := dkwX2_told_7 ++ dktX2_told_8
def dkwX2_told_6 : List UInt8 := [170, 0, 0, 0, 1, 57, 0, 0, 0, 0, 0, 0, 0, 4, 0, 0, 0, 34, 0, 0, 0, 87, 0, 0, 0, 120, 0, 0, 0, 199, 0, 0, 1, 1]
abbrev dktX2_told_6 : List UInt8 := dkwX2_told_6 ++ dktX2_told_7
def dkwX2_told_5 : List UInt8 := [21, 4]
abbrev dktX2_told_5 : List UInt8 := dkwX2_told_5 ++ dktX2_told_6
def dkwX2_told_4 : List UInt8 := [182, 0, 74, 153, 0, 21, 6, 54, 4, 167, 0, 15, 45, 18, 151, 182, 0, 74, 153, 0, 6, 7, 54, 4]
abbrev dktX2_told_4 : List UInt8 := dkwX2_told_4 ++ dktX2_told_5
def dkwX2_told_3 : List UInt8 := [4, 54, 4, 167, 0, 45, 45, 18, 147, 182, 0, 74, 153, 0, 36, 5, 54, 4, 167, 0, 30, 45, 18, 149]
abbrev dktX2_told_3 : List UInt8 := dkwX2_told_3 ++ dktX2_told_4
def dkwX2_told_2 : List UInt8 := [45, 18, 144, 182, 0, 74, 153, 0, 66, 3, 54, 4, 167, 0, 60, 45, 18, 145, 182, 0, 74, 153, 0, 51]
abbrev dktX2_told_2 : List UInt8 := dkwX2_told_2 ++ dktX2_told_3
def dkwX2_told_1 : List UInt8 := [171, 0, 0, 0, 0, 0, 123, 0, 0, 0, 5, 196, 227, 155, 85, 0, 0, 0, 81, 0, 47, 245, 132, 0, 0, 0, 66, 0, 50, 59, 148, 0, 0, 0, 51, 6, 35, 67, 188, 0, 0, 0, 96, 6, 95, 164, 67, 0, 0, 0, 111]
abbrev dktX2_told_1 : List UInt8 := dkwX2_told_1 ++ dktX2_told_2
def dkwX2_told_0 : List UInt8 := [43, 78, 2, 54, 4, 45, 182, 0, 141]
abbrev dktX2_told_0 : List UInt8 := dkwX2_told_0 ++ dktX2_told_1
theorem dksX2_told_0 : cX2_told.data.toList.drop 0 = dktX2_told_0 := by decide +kernel
theorem dksX2_told_1 : cX2_told.data.toList.drop 9 = dktX2_told_1 := dk_seg dksX2_told_0 9 rfl rfl
theorem dksX2_told_2 : cX2_told.data.toList.drop 60 = dktX2_told_2 := dk_seg dksX2_told_1 51 rfl rfl
theorem dksX2_told_3 : cX2_told.data.toList.drop 84 = dktX2_told_3 := dk_seg dksX2_told_2 24 rfl rfl
theorem dksX2_told_4 : cX2_told.data.toList.drop 108 = dktX2_told_4 := dk_seg dksX2_told_3 24 rfl rfl
theorem dksX2_told_5 : cX2_told.data.toList.drop 132 = dktX2_told_5 := dk_seg dksX2_told_4 24 rfl rfl
theorem dksX2_told_6 : cX2_told.data.toList.drop 134 = dktX2_told_6 := dk_seg dksX2_told_5 2 rfl rfl
theorem dksX2_told_7 : cX2_told.data.toList.drop 168 = dktX2_told_7 := dk_seg dksX2_told_6 34 rfl rfl
theorem dksX2_told_8 : cX2_told.data.toList.drop 192 = dktX2_told_8 := dk_seg dksX2_told_7 24 rfl rfl
theorem dksX2_told_9 : cX2_told.data.toList.drop 213 = dktX2_told_9 := dk_seg dksX2_told_8 21 rfl rfl
theorem dksX2_told_10 : cX2_told.data.toList.drop 236 = dktX2_told_10 := dk_seg dksX2_told_9 23 rfl rfl
theorem dksX2_told_11 : cX2_told.data.toList.drop 259 = dktX2_told_11 := dk_seg dksX2_told_10 23 rfl rfl
theorem dksX2_told_12 : cX2_told.data.toList.drop 281 = dktX2_told_12 := dk_seg dksX2_told_11 22 rfl rfl
theorem dksX2_told_13 : cX2_told.data.toList.drop 304 = dktX2_told_13 := dk_seg dksX2_told_12 23 rfl rfl
theorem dksX2_told_14 : cX2_told.data.toList.drop 325 = dktX2_told_14 := dk_seg dksX2_told_13 21 rfl rfl
theorem dksX2_told_15 : cX2_told.data.toList.drop 348 = dktX2_told_15 := dk_seg dksX2_told_14 23 rfl rfl
theorem dksX2_told_16 : cX2_told.data.toList.drop 372 = dktX2_told_16 := dk_seg dksX2_told_15 24 rfl rfl
theorem dksX2_told_17 : cX2_told.data.toList.drop 396 = dktX2_told_17 := dk_seg dksX2_told_16 24 rfl rfl
theorem dksX2_told_18 : cX2_told.data.toList.drop 420 = dktX2_told_18 := dk_seg dksX2_told_17 24 rfl rfl
theorem dksX2_told_19 : cX2_told.data.toList.drop 442 = dktX2_told_19 := dk_seg dksX2_told_18 22 rfl rfl
theorem dX2_told_0 : decode cX2_told 0 = .ok (.aload_n 1, 1) := dk_43 (dk_at dksX2_told_0 0 rfl rfl)
theorem dX2_told_1 : decode cX2_told 1 = .ok (.astore_n 3, 1) := dk_78 (dk_at dksX2_told_0 1 rfl rfl)
theorem dX2_told_2 : decode cX2_told 2 = .ok (.iconst (-1), 1) := dk_2 (dk_at dksX2_told_0 2 rfl rfl)
theorem dX2_told_3 : decode cX2_told 3 = .ok (.istore 4, 2) := dk_54 4 (dk_at dksX2_told_0 3 rfl rfl)
theorem dX2_told_5 : decode cX2_told 5 = .ok (.aload_n 3, 1) := dk_45 (dk_at dksX2_told_0 5 rfl rfl)
theorem dX2_told_6 : decode cX2_told 6 = .ok (.invokevirtual 141, 3) := dk_182 0 141 (dk_at dksX2_told_0 6 rfl rfl)
theorem dX2_told_9 : decode cX2_told 9 = .ok (.lookupswitch 123 #[(-991716523, 81), (3143044, 66), (3292052, 51), (102974396, 96), (106931267, 111)], 51) := by decide +kernel
theorem dX2_told_60 : decode cX2_told 60 = .ok (.aload_n 3, 1) := dk_45 (dk_at dksX2_told_2 0 rfl rfl)
theorem dX2_told_61 : decode cX2_told 61 = .ok (.ldc 144, 2) := dk_18 144 (dk_at dksX2_told_2 1 rfl rfl)
theorem dX2_told_63 : decode cX2_told 63 = .ok (.invokevirtual 74, 3) := dk_182 0 74 (dk_at dksX2_told_2 3 rfl rfl)
theorem dX2_told_66 : decode cX2_told 66 = .ok (.ifCond .eq 66, 3) := dk_153 0 66 (dk_at dksX2_told_2 6 rfl rfl)
theorem dX2_told_69 : decode cX2_told 69 = .ok (.iconst 0, 1) := dk_3 (dk_at dksX2_told_2 9 rfl rfl)
theorem dX2_told_70 : decode cX2_told 70 = .ok (.istore 4, 2) := dk_54 4 (dk_at dksX2_told_2 10 rfl rfl)
theorem dX2_told_72 : decode cX2_told 72 = .ok (.goto 60, 3) := dk_167 0 60 (dk_at dksX2_told_2 12 rfl rfl)
theorem dX2_told_75 : decode cX2_told 75 = .ok (.aload_n 3, 1) := dk_45 (dk_at dksX2_told_2 15 rfl rfl)
theorem dX2_told_76 : decode cX2_told 76 = .ok (.ldc 145, 2) := dk_18 145 (dk_at dksX2_told_2 16 rfl rfl)
theorem dX2_told_78 : decode cX2_told 78 = .ok (.invokevirtual 74, 3) := dk_182 0 74 (dk_at dksX2_told_2 18 rfl rfl)
theorem dX2_told_81 : decode cX2_told 81 = .ok (.ifCond .eq 51, 3) := dk_153 0 51 (dk_at dksX2_told_2 21 rfl rfl)
theorem dX2_told_84 : decode cX2_told 84 = .ok (.iconst 1, 1) := dk_4 (dk_at dksX2_told_3 0 rfl rfl)
theorem dX2_told_85 : decode cX2_told 85 = .ok (.istore 4, 2) := dk_54 4 (dk_at dksX2_told_3 1 rfl rfl)
theorem dX2_told_87 : decode cX2_told 87 = .ok (.goto 45, 3) := dk_167 0 45 (dk_at dksX2_told_3 3 rfl rfl)
theorem dX2_told_90 : decode cX2_told 90 = .ok (.aload_n 3, 1) := dk_45 (dk_at dksX2_told_3 6 rfl rfl)
theorem dX2_told_91 : decode cX2_told 91 = .ok (.ldc 147, 2) := dk_18 147 (dk_at dksX2_told_3 7 rfl rfl)
theorem dX2_told_93 : decode cX2_told 93 = .ok (.invokevirtual 74, 3) := dk_182 0 74 (dk_at dksX2_told_3 9 rfl rfl)
theorem dX2_told_96 : decode cX2_told 96 = .ok (.ifCond .eq 36, 3) := dk_153 0 36 (dk_at dksX2_told_3 12 rfl rfl)
theorem dX2_told_99 : decode cX2_told 99 = .ok (.iconst 2, 1) := dk_5 (dk_at dksX2_told_3 15 rfl rfl)
theorem dX2_told_100 : decode cX2_told 100 = .ok (.istore 4, 2) := dk_54 4 (dk_at dksX2_told_3 16 rfl rfl)
theorem dX2_told_102 : decode cX2_told 102 = .ok (.goto 30, 3) := dk_167 0 30 (dk_at dksX2_told_3 18 rfl rfl)
theorem dX2_told_105 : decode cX2_told 105 = .ok (.aload_n 3, 1) := dk_45 (dk_at dksX2_told_3 21 rfl rfl)
theorem dX2_told_106 : decode cX2_told 106 = .ok (.ldc 149, 2) := dk_18 149 (dk_at dksX2_told_3 22 rfl rfl)
theorem dX2_told_108 : decode cX2_told 108 = .ok (.invokevirtual 74, 3) := dk_182 0 74 (dk_at dksX2_told_4 0 rfl rfl)
theorem dX2_told_111 : decode cX2_told 111 = .ok (.ifCond .eq 21, 3) := dk_153 0 21 (dk_at dksX2_told_4 3 rfl rfl)
theorem dX2_told_114 : decode cX2_told 114 = .ok (.iconst 3, 1) := dk_6 (dk_at dksX2_told_4 6 rfl rfl)
theorem dX2_told_115 : decode cX2_told 115 = .ok (.istore 4, 2) := dk_54 4 (dk_at dksX2_told_4 7 rfl rfl)
theorem dX2_told_117 : decode cX2_told 117 = .ok (.goto 15, 3) := dk_167 0 15 (dk_at dksX2_told_4 9 rfl rfl)
theorem dX2_told_120 : decode cX2_told 120 = .ok (.aload_n 3, 1) := dk_45 (dk_at dksX2_told_4 12 rfl rfl)
theorem dX2_told_121 : decode cX2_told 121 = .ok (.ldc 151, 2) := dk_18 151 (dk_at dksX2_told_4 13 rfl rfl)
theorem dX2_told_123 : decode cX2_told 123 = .ok (.invokevirtual 74, 3) := dk_182 0 74 (dk_at dksX2_told_4 15 rfl rfl)
theorem dX2_told_126 : decode cX2_told 126 = .ok (.ifCond .eq 6, 3) := dk_153 0 6 (dk_at dksX2_told_4 18 rfl rfl)
theorem dX2_told_129 : decode cX2_told 129 = .ok (.iconst 4, 1) := dk_7 (dk_at dksX2_told_4 21 rfl rfl)
theorem dX2_told_130 : decode cX2_told 130 = .ok (.istore 4, 2) := dk_54 4 (dk_at dksX2_told_4 22 rfl rfl)
theorem dX2_told_132 : decode cX2_told 132 = .ok (.iload 4, 2) := dk_21 4 (dk_at dksX2_told_5 0 rfl rfl)
theorem dX2_told_134 : decode cX2_told 134 = .ok (.tableswitch 313 0 4 #[34, 87, 120, 199, 257], 34) := by decide +kernel
theorem dX2_told_168 : decode cX2_told 168 = .ok (.aload_n 0, 1) := dk_42 (dk_at dksX2_told_7 0 rfl rfl)
theorem dX2_told_169 : decode cX2_told 169 = .ok (.aload_n 0, 1) := dk_42 (dk_at dksX2_told_7 1 rfl rfl)
theorem dX2_told_170 : decode cX2_told 170 = .ok (.getfield 103, 3) := dk_180 0 103 (dk_at dksX2_told_7 2 rfl rfl)
theorem dX2_told_173 : decode cX2_told 173 = .ok (.getfield 153, 3) := dk_180 0 153 (dk_at dksX2_told_7 5 rfl rfl)
theorem dX2_told_176 : decode cX2_told 176 = .ok (.invokeinterface 157 1, 5) := by decide +kernel
theorem dX2_told_181 : decode cX2_told 181 = .ok (.bipush 6, 2) := dk_16 6 (dk_at dksX2_told_7 13 rfl rfl)
theorem dX2_told_183 : decode cX2_told 183 = .ok (.if_icmp .ne 7, 3) := dk_160 0 7 (dk_at dksX2_told_7 15 rfl rfl)
theorem dX2_told_186 : decode cX2_told 186 = .ok (.iconst 1, 1) := dk_4 (dk_at dksX2_told_7 18 rfl rfl)
theorem dX2_told_187 : decode cX2_told 187 = .ok (.goto 4, 3) := dk_167 0 4 (dk_at dksX2_told_7 19 rfl rfl)
theorem dX2_told_190 : decode cX2_told 190 = .ok (.iconst 0, 1) := dk_3 (dk_at dksX2_told_7 22 rfl rfl)
theorem dX2_told_191 : decode cX2_told 191 = .ok (.iload_n 2, 1) := dk_28 (dk_at dksX2_told_7 23 rfl rfl)
theorem dX2_told_192 : decode cX2_told 192 = .ok (.invokevirtual 125, 3) := dk_182 0 125 (dk_at dksX2_told_8 0 rfl rfl)
theorem dX2_told_195 : decode cX2_told 195 = .ok (.aload_n 0, 1) := dk_42 (dk_at dksX2_told_8 3 rfl rfl)
theorem dX2_told_196 : decode cX2_told 196 = .ok (.getfield 103, 3) := dk_180 0 103 (dk_at dksX2_told_8 4 rfl rfl)
theorem dX2_told_199 : decode cX2_told 199 = .ok (.getfield 153, 3) := dk_180 0 153 (dk_at dksX2_told_8 7 rfl rfl)
theorem dX2_told_202 : decode cX2_told 202 = .ok (.new 114, 3) := dk_187 0 114 (dk_at dksX2_told_8 10 rfl rfl)
theorem dX2_told_205 : decode cX2_told 205 = .ok (.dup, 1) := dk_89 (dk_at dksX2_told_8 13 rfl rfl)
theorem dX2_told_206 : decode cX2_told 206 = .ok (.aload_n 0, 1) := dk_42 (dk_at dksX2_told_8 14 rfl rfl)
theorem dX2_told_207 : decode cX2_told 207 = .ok (.invokevirtual 161, 3) := dk_182 0 161 (dk_at dksX2_told_8 15 rfl rfl)
theorem dX2_told_210 : decode cX2_told 210 = .ok (.invokespecial 164, 3) := dk_183 0 164 (dk_at dksX2_told_8 18 rfl rfl)
theorem dX2_told_213 : decode cX2_told 213 = .ok (.invokeinterface 166 2, 5) := by decide +kernel
theorem dX2_told_218 : decode cX2_told 218 = .ok (.pop, 1) := dk_87 (dk_at dksX2_told_9 5 rfl rfl)
theorem dX2_told_219 : decode cX2_told 219 = .ok (.iconst 1, 1) := dk_4 (dk_at dksX2_told_9 6 rfl rfl)
theorem dX2_told_220 : decode cX2_told 220 = .ok (.ireturn, 1) := dk_172 (dk_at dksX2_told_9 7 rfl rfl)
theorem dX2_told_221 : decode cX2_told 221 = .ok (.aload_n 0, 1) := dk_42 (dk_at dksX2_told_9 8 rfl rfl)
theorem dX2_told_222 : decode cX2_told 222 = .ok (.aload_n 0, 1) := dk_42 (dk_at dksX2_told_9 9 rfl rfl)
theorem dX2_told_223 : decode cX2_told 223 = .ok (.getfield 103, 3) := dk_180 0 103 (dk_at dksX2_told_9 10 rfl rfl)
theorem dX2_told_226 : decode cX2_told 226 = .ok (.getfield 169, 3) := dk_180 0 169 (dk_at dksX2_told_9 13 rfl rfl)
theorem dX2_told_229 : decode cX2_told 229 = .ok (.invokeinterface 157 1, 5) := by decide +kernel
theorem dX2_told_234 : decode cX2_told 234 = .ok (.bipush 8, 2) := dk_16 8 (dk_at dksX2_told_9 21 rfl rfl)
theorem dX2_told_236 : decode cX2_told 236 = .ok (.if_icmp .ne 7, 3) := dk_160 0 7 (dk_at dksX2_told_10 0 rfl rfl)
theorem dX2_told_239 : decode cX2_told 239 = .ok (.iconst 1, 1) := dk_4 (dk_at dksX2_told_10 3 rfl rfl)
theorem dX2_told_240 : decode cX2_told 240 = .ok (.goto 4, 3) := dk_167 0 4 (dk_at dksX2_told_10 4 rfl rfl)
theorem dX2_told_243 : decode cX2_told 243 = .ok (.iconst 0, 1) := dk_3 (dk_at dksX2_told_10 7 rfl rfl)
theorem dX2_told_244 : decode cX2_told 244 = .ok (.iload_n 2, 1) := dk_28 (dk_at dksX2_told_10 8 rfl rfl)
theorem dX2_told_245 : decode cX2_told 245 = .ok (.invokevirtual 125, 3) := dk_182 0 125 (dk_at dksX2_told_10 9 rfl rfl)
theorem dX2_told_248 : decode cX2_told 248 = .ok (.aload_n 0, 1) := dk_42 (dk_at dksX2_told_10 12 rfl rfl)
theorem dX2_told_249 : decode cX2_told 249 = .ok (.invokevirtual 172, 3) := dk_182 0 172 (dk_at dksX2_told_10 13 rfl rfl)
theorem dX2_told_252 : decode cX2_told 252 = .ok (.iconst 1, 1) := dk_4 (dk_at dksX2_told_10 16 rfl rfl)
theorem dX2_told_253 : decode cX2_told 253 = .ok (.ireturn, 1) := dk_172 (dk_at dksX2_told_10 17 rfl rfl)
theorem dX2_told_254 : decode cX2_told 254 = .ok (.aload_n 0, 1) := dk_42 (dk_at dksX2_told_10 18 rfl rfl)
theorem dX2_told_255 : decode cX2_told 255 = .ok (.aload_n 0, 1) := dk_42 (dk_at dksX2_told_10 19 rfl rfl)
theorem dX2_told_256 : decode cX2_told 256 = .ok (.getfield 103, 3) := dk_180 0 103 (dk_at dksX2_told_10 20 rfl rfl)
theorem dX2_told_259 : decode cX2_told 259 = .ok (.getfield 174, 3) := dk_180 0 174 (dk_at dksX2_told_11 0 rfl rfl)
theorem dX2_told_262 : decode cX2_told 262 = .ok (.invokeinterface 157 1, 5) := by decide +kernel
theorem dX2_told_267 : decode cX2_told 267 = .ok (.iconst 5, 1) := dk_8 (dk_at dksX2_told_11 8 rfl rfl)
theorem dX2_told_268 : decode cX2_told 268 = .ok (.if_icmp .ne 7, 3) := dk_160 0 7 (dk_at dksX2_told_11 9 rfl rfl)
theorem dX2_told_271 : decode cX2_told 271 = .ok (.iconst 1, 1) := dk_4 (dk_at dksX2_told_11 12 rfl rfl)
theorem dX2_told_272 : decode cX2_told 272 = .ok (.goto 4, 3) := dk_167 0 4 (dk_at dksX2_told_11 13 rfl rfl)
theorem dX2_told_275 : decode cX2_told 275 = .ok (.iconst 0, 1) := dk_3 (dk_at dksX2_told_11 16 rfl rfl)
theorem dX2_told_276 : decode cX2_told 276 = .ok (.iload_n 2, 1) := dk_28 (dk_at dksX2_told_11 17 rfl rfl)
theorem dX2_told_277 : decode cX2_told 277 = .ok (.invokevirtual 125, 3) := dk_182 0 125 (dk_at dksX2_told_11 18 rfl rfl)
theorem dX2_told_280 : decode cX2_told 280 = .ok (.aload_n 0, 1) := dk_42 (dk_at dksX2_told_11 21 rfl rfl)
theorem dX2_told_281 : decode cX2_told 281 = .ok (.invokevirtual 161, 3) := dk_182 0 161 (dk_at dksX2_told_12 0 rfl rfl)
theorem dX2_told_284 : decode cX2_told 284 = .ok (.astore 5, 2) := dk_58 5 (dk_at dksX2_told_12 3 rfl rfl)
theorem dX2_told_286 : decode cX2_told 286 = .ok (.aload_n 0, 1) := dk_42 (dk_at dksX2_told_12 5 rfl rfl)
theorem dX2_told_287 : decode cX2_told 287 = .ok (.ldc 177, 2) := dk_18 177 (dk_at dksX2_told_12 6 rfl rfl)
theorem dX2_told_289 : decode cX2_told 289 = .ok (.iconst 0, 1) := dk_3 (dk_at dksX2_told_12 8 rfl rfl)
theorem dX2_told_290 : decode cX2_told 290 = .ok (.bipush 23, 2) := dk_16 23 (dk_at dksX2_told_12 9 rfl rfl)
theorem dX2_told_292 : decode cX2_told 292 = .ok (.invokevirtual 178, 3) := dk_182 0 178 (dk_at dksX2_told_12 11 rfl rfl)
theorem dX2_told_295 : decode cX2_told 295 = .ok (.istore 6, 2) := dk_54 6 (dk_at dksX2_told_12 14 rfl rfl)
theorem dX2_told_297 : decode cX2_told 297 = .ok (.aload_n 0, 1) := dk_42 (dk_at dksX2_told_12 16 rfl rfl)
theorem dX2_told_298 : decode cX2_told 298 = .ok (.getfield 103, 3) := dk_180 0 103 (dk_at dksX2_told_12 17 rfl rfl)
theorem dX2_told_301 : decode cX2_told 301 = .ok (.getfield 174, 3) := dk_180 0 174 (dk_at dksX2_told_12 20 rfl rfl)
theorem dX2_told_304 : decode cX2_told 304 = .ok (.new 181, 3) := dk_187 0 181 (dk_at dksX2_told_13 0 rfl rfl)
theorem dX2_told_307 : decode cX2_told 307 = .ok (.dup, 1) := dk_89 (dk_at dksX2_told_13 3 rfl rfl)
theorem dX2_told_308 : decode cX2_told 308 = .ok (.aload 5, 2) := dk_25 5 (dk_at dksX2_told_13 4 rfl rfl)
theorem dX2_told_310 : decode cX2_told 310 = .ok (.iload 6, 2) := dk_21 6 (dk_at dksX2_told_13 6 rfl rfl)
theorem dX2_told_312 : decode cX2_told 312 = .ok (.aload_n 0, 1) := dk_42 (dk_at dksX2_told_13 8 rfl rfl)
theorem dX2_told_313 : decode cX2_told 313 = .ok (.ldc 183, 2) := dk_18 183 (dk_at dksX2_told_13 9 rfl rfl)
theorem dX2_told_315 : decode cX2_told 315 = .ok (.iload 6, 2) := dk_21 6 (dk_at dksX2_told_13 11 rfl rfl)
theorem dX2_told_317 : decode cX2_told 317 = .ok (.bipush 23, 2) := dk_16 23 (dk_at dksX2_told_13 13 rfl rfl)
theorem dX2_told_319 : decode cX2_told 319 = .ok (.invokevirtual 178, 3) := dk_182 0 178 (dk_at dksX2_told_13 15 rfl rfl)
theorem dX2_told_322 : decode cX2_told 322 = .ok (.invokespecial 184, 3) := dk_183 0 184 (dk_at dksX2_told_13 18 rfl rfl)
theorem dX2_told_325 : decode cX2_told 325 = .ok (.invokeinterface 166 2, 5) := by decide +kernel
theorem dX2_told_330 : decode cX2_told 330 = .ok (.pop, 1) := dk_87 (dk_at dksX2_told_14 5 rfl rfl)
theorem dX2_told_331 : decode cX2_told 331 = .ok (.iconst 1, 1) := dk_4 (dk_at dksX2_told_14 6 rfl rfl)
theorem dX2_told_332 : decode cX2_told 332 = .ok (.ireturn, 1) := dk_172 (dk_at dksX2_told_14 7 rfl rfl)
theorem dX2_told_333 : decode cX2_told 333 = .ok (.aload_n 0, 1) := dk_42 (dk_at dksX2_told_14 8 rfl rfl)
theorem dX2_told_334 : decode cX2_told 334 = .ok (.getfield 103, 3) := dk_180 0 103 (dk_at dksX2_told_14 9 rfl rfl)
theorem dX2_told_337 : decode cX2_told 337 = .ok (.getfield 174, 3) := dk_180 0 174 (dk_at dksX2_told_14 12 rfl rfl)
theorem dX2_told_340 : decode cX2_told 340 = .ok (.aload_n 0, 1) := dk_42 (dk_at dksX2_told_14 15 rfl rfl)
theorem dX2_told_341 : decode cX2_told 341 = .ok (.aload_n 0, 1) := dk_42 (dk_at dksX2_told_14 16 rfl rfl)
theorem dX2_told_342 : decode cX2_told 342 = .ok (.getfield 103, 3) := dk_180 0 103 (dk_at dksX2_told_14 17 rfl rfl)
theorem dX2_told_345 : decode cX2_told 345 = .ok (.getfield 174, 3) := dk_180 0 174 (dk_at dksX2_told_14 20 rfl rfl)
theorem dX2_told_348 : decode cX2_told 348 = .ok (.invokevirtual 187, 3) := dk_182 0 187 (dk_at dksX2_told_15 0 rfl rfl)
theorem dX2_told_351 : decode cX2_told 351 = .ok (.invokeinterface 191 2, 5) := by decide +kernel
theorem dX2_told_356 : decode cX2_told 356 = .ok (.checkcast 181, 3) := dk_192 0 181 (dk_at dksX2_told_15 8 rfl rfl)
theorem dX2_told_359 : decode cX2_told 359 = .ok (.astore 7, 2) := dk_58 7 (dk_at dksX2_told_15 11 rfl rfl)
theorem dX2_told_361 : decode cX2_told 361 = .ok (.aload_n 0, 1) := dk_42 (dk_at dksX2_told_15 13 rfl rfl)
theorem dX2_told_362 : decode cX2_told 362 = .ok (.aload_n 0, 1) := dk_42 (dk_at dksX2_told_15 14 rfl rfl)
theorem dX2_told_363 : decode cX2_told 363 = .ok (.getfield 103, 3) := dk_180 0 103 (dk_at dksX2_told_15 15 rfl rfl)
theorem dX2_told_366 : decode cX2_told 366 = .ok (.getfield 153, 3) := dk_180 0 153 (dk_at dksX2_told_15 18 rfl rfl)
theorem dX2_told_369 : decode cX2_told 369 = .ok (.invokevirtual 187, 3) := dk_182 0 187 (dk_at dksX2_told_15 21 rfl rfl)
theorem dX2_told_372 : decode cX2_told 372 = .ok (.istore 8, 2) := dk_54 8 (dk_at dksX2_told_16 0 rfl rfl)
theorem dX2_told_374 : decode cX2_told 374 = .ok (.aload 7, 2) := dk_25 7 (dk_at dksX2_told_16 2 rfl rfl)
theorem dX2_told_376 : decode cX2_told 376 = .ok (.getfield 195, 3) := dk_180 0 195 (dk_at dksX2_told_16 4 rfl rfl)
theorem dX2_told_379 : decode cX2_told 379 = .ok (.iload 8, 2) := dk_21 8 (dk_at dksX2_told_16 7 rfl rfl)
theorem dX2_told_381 : decode cX2_told 381 = .ok (.aload_n 0, 1) := dk_42 (dk_at dksX2_told_16 9 rfl rfl)
theorem dX2_told_382 : decode cX2_told 382 = .ok (.iconst 0, 1) := dk_3 (dk_at dksX2_told_16 10 rfl rfl)
theorem dX2_told_383 : decode cX2_told 383 = .ok (.bipush 9, 2) := dk_16 9 (dk_at dksX2_told_16 11 rfl rfl)
theorem dX2_told_385 : decode cX2_told 385 = .ok (.invokevirtual 96, 3) := dk_182 0 96 (dk_at dksX2_told_16 13 rfl rfl)
theorem dX2_told_388 : decode cX2_told 388 = .ok (.iastore, 1) := dk_79 (dk_at dksX2_told_16 16 rfl rfl)
theorem dX2_told_389 : decode cX2_told 389 = .ok (.iconst 1, 1) := dk_4 (dk_at dksX2_told_16 17 rfl rfl)
theorem dX2_told_390 : decode cX2_told 390 = .ok (.ireturn, 1) := dk_172 (dk_at dksX2_told_16 18 rfl rfl)
theorem dX2_told_391 : decode cX2_told 391 = .ok (.aload_n 0, 1) := dk_42 (dk_at dksX2_told_16 19 rfl rfl)
theorem dX2_told_392 : decode cX2_told 392 = .ok (.aload_n 0, 1) := dk_42 (dk_at dksX2_told_16 20 rfl rfl)
theorem dX2_told_393 : decode cX2_told 393 = .ok (.getfield 103, 3) := dk_180 0 103 (dk_at dksX2_told_16 21 rfl rfl)
theorem dX2_told_396 : decode cX2_told 396 = .ok (.getfield 174, 3) := dk_180 0 174 (dk_at dksX2_told_17 0 rfl rfl)
theorem dX2_told_399 : decode cX2_told 399 = .ok (.invokevirtual 187, 3) := dk_182 0 187 (dk_at dksX2_told_17 3 rfl rfl)
theorem dX2_told_402 : decode cX2_told 402 = .ok (.istore 9, 2) := dk_54 9 (dk_at dksX2_told_17 6 rfl rfl)
theorem dX2_told_404 : decode cX2_told 404 = .ok (.aload_n 0, 1) := dk_42 (dk_at dksX2_told_17 8 rfl rfl)
theorem dX2_told_405 : decode cX2_told 405 = .ok (.getfield 103, 3) := dk_180 0 103 (dk_at dksX2_told_17 9 rfl rfl)
theorem dX2_told_408 : decode cX2_told 408 = .ok (.getfield 198, 3) := dk_180 0 198 (dk_at dksX2_told_17 12 rfl rfl)
theorem dX2_told_411 : decode cX2_told 411 = .ok (.iload 9, 2) := dk_21 9 (dk_at dksX2_told_17 15 rfl rfl)
theorem dX2_told_413 : decode cX2_told 413 = .ok (.invokestatic 201, 3) := dk_184 0 201 (dk_at dksX2_told_17 17 rfl rfl)
theorem dX2_told_416 : decode cX2_told 416 = .ok (.ifCond .eq 13, 3) := dk_153 0 13 (dk_at dksX2_told_17 20 rfl rfl)
theorem dX2_told_419 : decode cX2_told 419 = .ok (.aload_n 0, 1) := dk_42 (dk_at dksX2_told_17 23 rfl rfl)
theorem dX2_told_420 : decode cX2_told 420 = .ok (.iconst 3, 1) := dk_6 (dk_at dksX2_told_18 0 rfl rfl)
theorem dX2_told_421 : decode cX2_told 421 = .ok (.aload_n 0, 1) := dk_42 (dk_at dksX2_told_18 1 rfl rfl)
theorem dX2_told_422 : decode cX2_told 422 = .ok (.getfield 61, 3) := dk_180 0 61 (dk_at dksX2_told_18 2 rfl rfl)
theorem dX2_told_425 : decode cX2_told 425 = .ok (.invokevirtual 47, 3) := dk_182 0 47 (dk_at dksX2_told_18 5 rfl rfl)
theorem dX2_told_428 : decode cX2_told 428 = .ok (.athrow, 1) := dk_191 (dk_at dksX2_told_18 8 rfl rfl)
theorem dX2_told_429 : decode cX2_told 429 = .ok (.aload_n 0, 1) := dk_42 (dk_at dksX2_told_18 9 rfl rfl)
theorem dX2_told_430 : decode cX2_told 430 = .ok (.getfield 103, 3) := dk_180 0 103 (dk_at dksX2_told_18 10 rfl rfl)
theorem dX2_told_433 : decode cX2_told 433 = .ok (.dup, 1) := dk_89 (dk_at dksX2_told_18 13 rfl rfl)
theorem dX2_told_434 : decode cX2_told 434 = .ok (.getfield 198, 3) := dk_180 0 198 (dk_at dksX2_told_18 14 rfl rfl)
theorem dX2_told_437 : decode cX2_told 437 = .ok (.iconst 1, 1) := dk_4 (dk_at dksX2_told_18 17 rfl rfl)
theorem dX2_told_438 : decode cX2_told 438 = .ok (.iload 9, 2) := dk_21 9 (dk_at dksX2_told_18 18 rfl rfl)
theorem dX2_told_440 : decode cX2_told 440 = .ok (.ishl, 1) := dk_120 (dk_at dksX2_told_18 20 rfl rfl)
theorem dX2_told_441 : decode cX2_told 441 = .ok (.ior, 1) := dk_128 (dk_at dksX2_told_18 21 rfl rfl)
theorem dX2_told_442 : decode cX2_told 442 = .ok (.putfield 198, 3) := dk_181 0 198 (dk_at dksX2_told_19 0 rfl rfl)
theorem dX2_told_445 : decode cX2_told 445 = .ok (.iconst 1, 1) := dk_4 (dk_at dksX2_told_19 3 rfl rfl)
theorem dX2_told_446 : decode cX2_told 446 = .ok (.ireturn, 1) := dk_172 (dk_at dksX2_told_19 4 rfl rfl)
theorem dX2_told_447 : decode cX2_told 447 = .ok (.iconst 0, 1) := dk_3 (dk_at dksX2_told_19 5 rfl rfl)
theorem dX2_told_448 : decode cX2_told 448 = .ok (.ireturn, 1) := dk_172 (dk_at dksX2_told_19 6 rfl rfl)
abbrev cX2_fresh : ByteArray := prog_17_method_13_code
def yX2_fresh : MethodName := ⟨RX2, "fresh", "()Ljava/lang/String;"⟩
def dkwX2_fresh_1 : List UInt8 := [182, 0, 47, 191, 43, 176]
abbrev dktX2_fresh_1 : List UInt8 := dkwX2_fresh_1 ++ []
def dkwX2_fresh_0 : List UInt8 := [42, 182, 0, 100, 76, 42, 180, 0, 103, 43, 182, 0, 107, 153, 0, 13, 42, 6, 42, 180, 0, 61]
abbrev dktX2_fresh_0 : List UInt8 := dkwX2_fresh_0 ++ dktX2_fresh_1
theorem dksX2_fresh_0 : cX2_fresh.data.toList.drop 0 = dktX2_fresh_0 := by decide +kernel
theorem dksX2_fresh_1 : cX2_fresh.data.toList.drop 22 = dktX2_fresh_1 := dk_seg dksX2_fresh_0 22 rfl rfl
theorem dX2_fresh_0 : decode cX2_fresh 0 = .ok (.aload_n 0, 1) := dk_42 (dk_at dksX2_fresh_0 0 rfl rfl)
theorem dX2_fresh_1 : decode cX2_fresh 1 = .ok (.invokevirtual 100, 3) := dk_182 0 100 (dk_at dksX2_fresh_0 1 rfl rfl)
theorem dX2_fresh_4 : decode cX2_fresh 4 = .ok (.astore_n 1, 1) := dk_76 (dk_at dksX2_fresh_0 4 rfl rfl)
theorem dX2_fresh_5 : decode cX2_fresh 5 = .ok (.aload_n 0, 1) := dk_42 (dk_at dksX2_fresh_0 5 rfl rfl)
theorem dX2_fresh_6 : decode cX2_fresh 6 = .ok (.getfield 103, 3) := dk_180 0 103 (dk_at dksX2_fresh_0 6 rfl rfl)
theorem dX2_fresh_9 : decode cX2_fresh 9 = .ok (.aload_n 1, 1) := dk_43 (dk_at dksX2_fresh_0 9 rfl rfl)
theorem dX2_fresh_10 : decode cX2_fresh 10 = .ok (.invokevirtual 107, 3) := dk_182 0 107 (dk_at dksX2_fresh_0 10 rfl rfl)
theorem dX2_fresh_13 : decode cX2_fresh 13 = .ok (.ifCond .eq 13, 3) := dk_153 0 13 (dk_at dksX2_fresh_0 13 rfl rfl)
theorem dX2_fresh_16 : decode cX2_fresh 16 = .ok (.aload_n 0, 1) := dk_42 (dk_at dksX2_fresh_0 16 rfl rfl)
theorem dX2_fresh_17 : decode cX2_fresh 17 = .ok (.iconst 3, 1) := dk_6 (dk_at dksX2_fresh_0 17 rfl rfl)
theorem dX2_fresh_18 : decode cX2_fresh 18 = .ok (.aload_n 0, 1) := dk_42 (dk_at dksX2_fresh_0 18 rfl rfl)
theorem dX2_fresh_19 : decode cX2_fresh 19 = .ok (.getfield 61, 3) := dk_180 0 61 (dk_at dksX2_fresh_0 19 rfl rfl)
theorem dX2_fresh_22 : decode cX2_fresh 22 = .ok (.invokevirtual 47, 3) := dk_182 0 47 (dk_at dksX2_fresh_1 0 rfl rfl)
theorem dX2_fresh_25 : decode cX2_fresh 25 = .ok (.athrow, 1) := dk_191 (dk_at dksX2_fresh_1 3 rfl rfl)
theorem dX2_fresh_26 : decode cX2_fresh 26 = .ok (.aload_n 1, 1) := dk_43 (dk_at dksX2_fresh_1 4 rfl rfl)
theorem dX2_fresh_27 : decode cX2_fresh 27 = .ok (.areturn, 1) := dk_176 (dk_at dksX2_fresh_1 5 rfl rfl)
abbrev cX2_name : ByteArray := prog_17_method_10_code
def yX2_name : MethodName := ⟨RX2, "name", "()Ljava/lang/String;"⟩
def dkwX2_name_2 : List UInt8 := [182, 0, 47, 191, 43, 176]
abbrev dktX2_name_2 : List UInt8 := dkwX2_name_2 ++ []
def dkwX2_name_1 : List UInt8 := [182, 0, 47, 191, 43, 182, 0, 86, 16, 6, 164, 0, 16, 42, 4, 42, 180, 0, 61, 16, 6, 96]
abbrev dktX2_name_1 : List UInt8 := dkwX2_name_1 ++ dktX2_name_2
def dkwX2_name_0 : List UInt8 := [42, 182, 0, 70, 76, 43, 178, 0, 78, 184, 0, 82, 2, 159, 0, 13, 42, 4, 42, 180, 0, 61]
abbrev dktX2_name_0 : List UInt8 := dkwX2_name_0 ++ dktX2_name_1
theorem dksX2_name_0 : cX2_name.data.toList.drop 0 = dktX2_name_0 := by decide +kernel
theorem dksX2_name_1 : cX2_name.data.toList.drop 22 = dktX2_name_1 := dk_seg dksX2_name_0 22 rfl rfl
theorem dksX2_name_2 : cX2_name.data.toList.drop 44 = dktX2_name_2 := dk_seg dksX2_name_1 22 rfl rfl
theorem dX2_name_0 : decode cX2_name 0 = .ok (.aload_n 0, 1) := dk_42 (dk_at dksX2_name_0 0 rfl rfl)
theorem dX2_name_1 : decode cX2_name 1 = .ok (.invokevirtual 70, 3) := dk_182 0 70 (dk_at dksX2_name_0 1 rfl rfl)
theorem dX2_name_4 : decode cX2_name 4 = .ok (.astore_n 1, 1) := dk_76 (dk_at dksX2_name_0 4 rfl rfl)
theorem dX2_name_5 : decode cX2_name 5 = .ok (.aload_n 1, 1) := dk_43 (dk_at dksX2_name_0 5 rfl rfl)
theorem dX2_name_6 : decode cX2_name 6 = .ok (.getstatic 78, 3) := dk_178 0 78 (dk_at dksX2_name_0 6 rfl rfl)
theorem dX2_name_9 : decode cX2_name 9 = .ok (.invokestatic 82, 3) := dk_184 0 82 (dk_at dksX2_name_0 9 rfl rfl)
theorem dX2_name_12 : decode cX2_name 12 = .ok (.iconst (-1), 1) := dk_2 (dk_at dksX2_name_0 12 rfl rfl)
theorem dX2_name_13 : decode cX2_name 13 = .ok (.if_icmp .eq 13, 3) := dk_159 0 13 (dk_at dksX2_name_0 13 rfl rfl)
theorem dX2_name_16 : decode cX2_name 16 = .ok (.aload_n 0, 1) := dk_42 (dk_at dksX2_name_0 16 rfl rfl)
theorem dX2_name_17 : decode cX2_name 17 = .ok (.iconst 1, 1) := dk_4 (dk_at dksX2_name_0 17 rfl rfl)
theorem dX2_name_18 : decode cX2_name 18 = .ok (.aload_n 0, 1) := dk_42 (dk_at dksX2_name_0 18 rfl rfl)
theorem dX2_name_19 : decode cX2_name 19 = .ok (.getfield 61, 3) := dk_180 0 61 (dk_at dksX2_name_0 19 rfl rfl)
theorem dX2_name_22 : decode cX2_name 22 = .ok (.invokevirtual 47, 3) := dk_182 0 47 (dk_at dksX2_name_1 0 rfl rfl)
theorem dX2_name_25 : decode cX2_name 25 = .ok (.athrow, 1) := dk_191 (dk_at dksX2_name_1 3 rfl rfl)
theorem dX2_name_26 : decode cX2_name 26 = .ok (.aload_n 1, 1) := dk_43 (dk_at dksX2_name_1 4 rfl rfl)
theorem dX2_name_27 : decode cX2_name 27 = .ok (.invokevirtual 86, 3) := dk_182 0 86 (dk_at dksX2_name_1 5 rfl rfl)
theorem dX2_name_30 : decode cX2_name 30 = .ok (.bipush 6, 2) := dk_16 6 (dk_at dksX2_name_1 8 rfl rfl)
theorem dX2_name_32 : decode cX2_name 32 = .ok (.if_icmp .le 16, 3) := dk_164 0 16 (dk_at dksX2_name_1 10 rfl rfl)
theorem dX2_name_35 : decode cX2_name 35 = .ok (.aload_n 0, 1) := dk_42 (dk_at dksX2_name_1 13 rfl rfl)
theorem dX2_name_36 : decode cX2_name 36 = .ok (.iconst 1, 1) := dk_4 (dk_at dksX2_name_1 14 rfl rfl)
theorem dX2_name_37 : decode cX2_name 37 = .ok (.aload_n 0, 1) := dk_42 (dk_at dksX2_name_1 15 rfl rfl)
theorem dX2_name_38 : decode cX2_name 38 = .ok (.getfield 61, 3) := dk_180 0 61 (dk_at dksX2_name_1 16 rfl rfl)
theorem dX2_name_41 : decode cX2_name 41 = .ok (.bipush 6, 2) := dk_16 6 (dk_at dksX2_name_1 19 rfl rfl)
theorem dX2_name_43 : decode cX2_name 43 = .ok (.iadd, 1) := dk_96 (dk_at dksX2_name_1 21 rfl rfl)
theorem dX2_name_44 : decode cX2_name 44 = .ok (.invokevirtual 47, 3) := dk_182 0 47 (dk_at dksX2_name_2 0 rfl rfl)
theorem dX2_name_47 : decode cX2_name 47 = .ok (.athrow, 1) := dk_191 (dk_at dksX2_name_2 3 rfl rfl)
theorem dX2_name_48 : decode cX2_name 48 = .ok (.aload_n 1, 1) := dk_43 (dk_at dksX2_name_2 4 rfl rfl)
theorem dX2_name_49 : decode cX2_name 49 = .ok (.areturn, 1) := dk_176 (dk_at dksX2_name_2 5 rfl rfl)
abbrev cX2_film : ByteArray := prog_17_method_18_code
def yX2_film : MethodName := ⟨RX2, "film", "()V"⟩
def dkwX2_film_4 : List UInt8 := [180, 0, 103, 180, 0, 169, 44, 185, 0, 166, 2, 0, 87, 177]
abbrev dktX2_film_4 : List UInt8 := dkwX2_film_4 ++ []
def dkwX2_film_3 : List UInt8 := [21, 4, 42, 4, 16, 9, 182, 0, 96, 79, 42, 182, 0, 43, 184, 0, 51, 62, 167, 255, 197, 42]
abbrev dktX2_film_3 : List UInt8 := dkwX2_film_3 ++ dktX2_film_4
def dkwX2_film_2 : List UInt8 := [44, 180, 0, 212, 21, 4, 46, 158, 0, 13, 42, 6, 42, 180, 0, 61, 182, 0, 47, 191, 44, 180, 0, 212]
abbrev dktX2_film_2 : List UInt8 := dkwX2_film_2 ++ dktX2_film_3
def dkwX2_film_1 : List UInt8 := [18, 211, 182, 0, 93, 4, 62, 29, 153, 0, 61, 42, 42, 180, 0, 103, 180, 0, 153, 182, 0, 187, 54, 4]
abbrev dktX2_film_1 : List UInt8 := dkwX2_film_1 ++ dktX2_film_2
def dkwX2_film_0 : List UInt8 := [42, 182, 0, 161, 76, 187, 0, 205, 89, 43, 42, 18, 207, 4, 16, 9, 182, 0, 178, 183, 0, 209, 77, 42]
abbrev dktX2_film_0 : List UInt8 := dkwX2_film_0 ++ dktX2_film_1
theorem dksX2_film_0 : cX2_film.data.toList.drop 0 = dktX2_film_0 := by decide +kernel
theorem dksX2_film_1 : cX2_film.data.toList.drop 24 = dktX2_film_1 := dk_seg dksX2_film_0 24 rfl rfl
theorem dksX2_film_2 : cX2_film.data.toList.drop 48 = dktX2_film_2 := dk_seg dksX2_film_1 24 rfl rfl
theorem dksX2_film_3 : cX2_film.data.toList.drop 72 = dktX2_film_3 := dk_seg dksX2_film_2 24 rfl rfl
theorem dksX2_film_4 : cX2_film.data.toList.drop 94 = dktX2_film_4 := dk_seg dksX2_film_3 22 rfl rfl
theorem dX2_film_0 : decode cX2_film 0 = .ok (.aload_n 0, 1) := dk_42 (dk_at dksX2_film_0 0 rfl rfl)
theorem dX2_film_1 : decode cX2_film 1 = .ok (.invokevirtual 161, 3) := dk_182 0 161 (dk_at dksX2_film_0 1 rfl rfl)
theorem dX2_film_4 : decode cX2_film 4 = .ok (.astore_n 1, 1) := dk_76 (dk_at dksX2_film_0 4 rfl rfl)
theorem dX2_film_5 : decode cX2_film 5 = .ok (.new 205, 3) := dk_187 0 205 (dk_at dksX2_film_0 5 rfl rfl)
theorem dX2_film_8 : decode cX2_film 8 = .ok (.dup, 1) := dk_89 (dk_at dksX2_film_0 8 rfl rfl)
theorem dX2_film_9 : decode cX2_film 9 = .ok (.aload_n 1, 1) := dk_43 (dk_at dksX2_film_0 9 rfl rfl)
theorem dX2_film_10 : decode cX2_film 10 = .ok (.aload_n 0, 1) := dk_42 (dk_at dksX2_film_0 10 rfl rfl)
theorem dX2_film_11 : decode cX2_film 11 = .ok (.ldc 207, 2) := dk_18 207 (dk_at dksX2_film_0 11 rfl rfl)
theorem dX2_film_13 : decode cX2_film 13 = .ok (.iconst 1, 1) := dk_4 (dk_at dksX2_film_0 13 rfl rfl)
theorem dX2_film_14 : decode cX2_film 14 = .ok (.bipush 9, 2) := dk_16 9 (dk_at dksX2_film_0 14 rfl rfl)
theorem dX2_film_16 : decode cX2_film 16 = .ok (.invokevirtual 178, 3) := dk_182 0 178 (dk_at dksX2_film_0 16 rfl rfl)
theorem dX2_film_19 : decode cX2_film 19 = .ok (.invokespecial 209, 3) := dk_183 0 209 (dk_at dksX2_film_0 19 rfl rfl)
theorem dX2_film_22 : decode cX2_film 22 = .ok (.astore_n 2, 1) := dk_77 (dk_at dksX2_film_0 22 rfl rfl)
theorem dX2_film_23 : decode cX2_film 23 = .ok (.aload_n 0, 1) := dk_42 (dk_at dksX2_film_0 23 rfl rfl)
theorem dX2_film_24 : decode cX2_film 24 = .ok (.ldc 211, 2) := dk_18 211 (dk_at dksX2_film_1 0 rfl rfl)
theorem dX2_film_26 : decode cX2_film 26 = .ok (.invokevirtual 93, 3) := dk_182 0 93 (dk_at dksX2_film_1 2 rfl rfl)
theorem dX2_film_29 : decode cX2_film 29 = .ok (.iconst 1, 1) := dk_4 (dk_at dksX2_film_1 5 rfl rfl)
theorem dX2_film_30 : decode cX2_film 30 = .ok (.istore_n 3, 1) := dk_62 (dk_at dksX2_film_1 6 rfl rfl)
theorem dX2_film_31 : decode cX2_film 31 = .ok (.iload_n 3, 1) := dk_29 (dk_at dksX2_film_1 7 rfl rfl)
theorem dX2_film_32 : decode cX2_film 32 = .ok (.ifCond .eq 61, 3) := dk_153 0 61 (dk_at dksX2_film_1 8 rfl rfl)
theorem dX2_film_35 : decode cX2_film 35 = .ok (.aload_n 0, 1) := dk_42 (dk_at dksX2_film_1 11 rfl rfl)
theorem dX2_film_36 : decode cX2_film 36 = .ok (.aload_n 0, 1) := dk_42 (dk_at dksX2_film_1 12 rfl rfl)
theorem dX2_film_37 : decode cX2_film 37 = .ok (.getfield 103, 3) := dk_180 0 103 (dk_at dksX2_film_1 13 rfl rfl)
theorem dX2_film_40 : decode cX2_film 40 = .ok (.getfield 153, 3) := dk_180 0 153 (dk_at dksX2_film_1 16 rfl rfl)
theorem dX2_film_43 : decode cX2_film 43 = .ok (.invokevirtual 187, 3) := dk_182 0 187 (dk_at dksX2_film_1 19 rfl rfl)
theorem dX2_film_46 : decode cX2_film 46 = .ok (.istore 4, 2) := dk_54 4 (dk_at dksX2_film_1 22 rfl rfl)
theorem dX2_film_48 : decode cX2_film 48 = .ok (.aload_n 2, 1) := dk_44 (dk_at dksX2_film_2 0 rfl rfl)
theorem dX2_film_49 : decode cX2_film 49 = .ok (.getfield 212, 3) := dk_180 0 212 (dk_at dksX2_film_2 1 rfl rfl)
theorem dX2_film_52 : decode cX2_film 52 = .ok (.iload 4, 2) := dk_21 4 (dk_at dksX2_film_2 4 rfl rfl)
theorem dX2_film_54 : decode cX2_film 54 = .ok (.iaload, 1) := dk_46 (dk_at dksX2_film_2 6 rfl rfl)
theorem dX2_film_55 : decode cX2_film 55 = .ok (.ifCond .le 13, 3) := dk_158 0 13 (dk_at dksX2_film_2 7 rfl rfl)
theorem dX2_film_58 : decode cX2_film 58 = .ok (.aload_n 0, 1) := dk_42 (dk_at dksX2_film_2 10 rfl rfl)
theorem dX2_film_59 : decode cX2_film 59 = .ok (.iconst 3, 1) := dk_6 (dk_at dksX2_film_2 11 rfl rfl)
theorem dX2_film_60 : decode cX2_film 60 = .ok (.aload_n 0, 1) := dk_42 (dk_at dksX2_film_2 12 rfl rfl)
theorem dX2_film_61 : decode cX2_film 61 = .ok (.getfield 61, 3) := dk_180 0 61 (dk_at dksX2_film_2 13 rfl rfl)
theorem dX2_film_64 : decode cX2_film 64 = .ok (.invokevirtual 47, 3) := dk_182 0 47 (dk_at dksX2_film_2 16 rfl rfl)
theorem dX2_film_67 : decode cX2_film 67 = .ok (.athrow, 1) := dk_191 (dk_at dksX2_film_2 19 rfl rfl)
theorem dX2_film_68 : decode cX2_film 68 = .ok (.aload_n 2, 1) := dk_44 (dk_at dksX2_film_2 20 rfl rfl)
theorem dX2_film_69 : decode cX2_film 69 = .ok (.getfield 212, 3) := dk_180 0 212 (dk_at dksX2_film_2 21 rfl rfl)
theorem dX2_film_72 : decode cX2_film 72 = .ok (.iload 4, 2) := dk_21 4 (dk_at dksX2_film_3 0 rfl rfl)
theorem dX2_film_74 : decode cX2_film 74 = .ok (.aload_n 0, 1) := dk_42 (dk_at dksX2_film_3 2 rfl rfl)
theorem dX2_film_75 : decode cX2_film 75 = .ok (.iconst 1, 1) := dk_4 (dk_at dksX2_film_3 3 rfl rfl)
theorem dX2_film_76 : decode cX2_film 76 = .ok (.bipush 9, 2) := dk_16 9 (dk_at dksX2_film_3 4 rfl rfl)
theorem dX2_film_78 : decode cX2_film 78 = .ok (.invokevirtual 96, 3) := dk_182 0 96 (dk_at dksX2_film_3 6 rfl rfl)
theorem dX2_film_81 : decode cX2_film 81 = .ok (.iastore, 1) := dk_79 (dk_at dksX2_film_3 9 rfl rfl)
theorem dX2_film_82 : decode cX2_film 82 = .ok (.aload_n 0, 1) := dk_42 (dk_at dksX2_film_3 10 rfl rfl)
theorem dX2_film_83 : decode cX2_film 83 = .ok (.invokevirtual 43, 3) := dk_182 0 43 (dk_at dksX2_film_3 11 rfl rfl)
theorem dX2_film_86 : decode cX2_film 86 = .ok (.invokestatic 51, 3) := dk_184 0 51 (dk_at dksX2_film_3 14 rfl rfl)
theorem dX2_film_89 : decode cX2_film 89 = .ok (.istore_n 3, 1) := dk_62 (dk_at dksX2_film_3 17 rfl rfl)
theorem dX2_film_90 : decode cX2_film 90 = .ok (.goto (-59), 3) := dk_167 255 197 (dk_at dksX2_film_3 18 rfl rfl)
theorem dX2_film_93 : decode cX2_film 93 = .ok (.aload_n 0, 1) := dk_42 (dk_at dksX2_film_3 21 rfl rfl)
theorem dX2_film_94 : decode cX2_film 94 = .ok (.getfield 103, 3) := dk_180 0 103 (dk_at dksX2_film_4 0 rfl rfl)
theorem dX2_film_97 : decode cX2_film 97 = .ok (.getfield 169, 3) := dk_180 0 169 (dk_at dksX2_film_4 3 rfl rfl)
theorem dX2_film_100 : decode cX2_film 100 = .ok (.aload_n 2, 1) := dk_44 (dk_at dksX2_film_4 6 rfl rfl)
theorem dX2_film_101 : decode cX2_film 101 = .ok (.invokeinterface 166 2, 5) := by decide +kernel
theorem dX2_film_106 : decode cX2_film 106 = .ok (.pop, 1) := dk_87 (dk_at dksX2_film_4 12 rfl rfl)
theorem dX2_film_107 : decode cX2_film 107 = .ok (.return_, 1) := dk_177 (dk_at dksX2_film_4 13 rfl rfl)
abbrev cX2_number : ByteArray := prog_17_method_12_code
def yX2_number : MethodName := ⟨RX2, "number", "(Ljava/lang/String;II)I"⟩
def dkwX2_number_0 : List UInt8 := [42, 43, 182, 0, 93, 42, 28, 29, 182, 0, 96, 172]
abbrev dktX2_number_0 : List UInt8 := dkwX2_number_0 ++ []
theorem dksX2_number_0 : cX2_number.data.toList.drop 0 = dktX2_number_0 := by decide +kernel
theorem dX2_number_0 : decode cX2_number 0 = .ok (.aload_n 0, 1) := dk_42 (dk_at dksX2_number_0 0 rfl rfl)
theorem dX2_number_1 : decode cX2_number 1 = .ok (.aload_n 1, 1) := dk_43 (dk_at dksX2_number_0 1 rfl rfl)
theorem dX2_number_2 : decode cX2_number 2 = .ok (.invokevirtual 93, 3) := dk_182 0 93 (dk_at dksX2_number_0 2 rfl rfl)
theorem dX2_number_5 : decode cX2_number 5 = .ok (.aload_n 0, 1) := dk_42 (dk_at dksX2_number_0 5 rfl rfl)
theorem dX2_number_6 : decode cX2_number 6 = .ok (.iload_n 2, 1) := dk_28 (dk_at dksX2_number_0 6 rfl rfl)
theorem dX2_number_7 : decode cX2_number 7 = .ok (.iload_n 3, 1) := dk_29 (dk_at dksX2_number_0 7 rfl rfl)
theorem dX2_number_8 : decode cX2_number 8 = .ok (.invokevirtual 96, 3) := dk_182 0 96 (dk_at dksX2_number_0 8 rfl rfl)
theorem dX2_number_11 : decode cX2_number 11 = .ok (.ireturn, 1) := dk_172 (dk_at dksX2_number_0 11 rfl rfl)
abbrev cX2_word_2 : ByteArray := prog_17_method_8_code
def yX2_word_2 : MethodName := ⟨RX2, "word", "(Ljava/lang/String;)V"⟩
def dkwX2_word_2_0 : List UInt8 := [42, 182, 0, 70, 43, 182, 0, 74, 154, 0, 13, 42, 4, 42, 180, 0, 61, 182, 0, 47, 191, 177]
abbrev dktX2_word_2_0 : List UInt8 := dkwX2_word_2_0 ++ []
theorem dksX2_word_2_0 : cX2_word_2.data.toList.drop 0 = dktX2_word_2_0 := by decide +kernel
theorem dX2_word_2_0 : decode cX2_word_2 0 = .ok (.aload_n 0, 1) := dk_42 (dk_at dksX2_word_2_0 0 rfl rfl)
theorem dX2_word_2_1 : decode cX2_word_2 1 = .ok (.invokevirtual 70, 3) := dk_182 0 70 (dk_at dksX2_word_2_0 1 rfl rfl)
theorem dX2_word_2_4 : decode cX2_word_2 4 = .ok (.aload_n 1, 1) := dk_43 (dk_at dksX2_word_2_0 4 rfl rfl)
theorem dX2_word_2_5 : decode cX2_word_2 5 = .ok (.invokevirtual 74, 3) := dk_182 0 74 (dk_at dksX2_word_2_0 5 rfl rfl)
theorem dX2_word_2_8 : decode cX2_word_2 8 = .ok (.ifCond .ne 13, 3) := dk_154 0 13 (dk_at dksX2_word_2_0 8 rfl rfl)
theorem dX2_word_2_11 : decode cX2_word_2 11 = .ok (.aload_n 0, 1) := dk_42 (dk_at dksX2_word_2_0 11 rfl rfl)
theorem dX2_word_2_12 : decode cX2_word_2 12 = .ok (.iconst 1, 1) := dk_4 (dk_at dksX2_word_2_0 12 rfl rfl)
theorem dX2_word_2_13 : decode cX2_word_2 13 = .ok (.aload_n 0, 1) := dk_42 (dk_at dksX2_word_2_0 13 rfl rfl)
theorem dX2_word_2_14 : decode cX2_word_2 14 = .ok (.getfield 61, 3) := dk_180 0 61 (dk_at dksX2_word_2_0 14 rfl rfl)
theorem dX2_word_2_17 : decode cX2_word_2 17 = .ok (.invokevirtual 47, 3) := dk_182 0 47 (dk_at dksX2_word_2_0 17 rfl rfl)
theorem dX2_word_2_20 : decode cX2_word_2 20 = .ok (.athrow, 1) := dk_191 (dk_at dksX2_word_2_0 20 rfl rfl)
theorem dX2_word_2_21 : decode cX2_word_2 21 = .ok (.return_, 1) := dk_177 (dk_at dksX2_word_2_0 21 rfl rfl)
abbrev cX2_number_2 : ByteArray := prog_17_method_11_code
def yX2_number_2 : MethodName := ⟨RX2, "number", "(II)I"⟩
def dkwX2_number_2_5 : List UInt8 := [191, 29, 172]
abbrev dktX2_number_2_5 : List UInt8 := dkwX2_number_2_5 ++ []
def dkwX2_number_2_4 : List UInt8 := [181, 0, 36, 167, 255, 192, 29, 27, 28, 184, 0, 89, 154, 0, 13, 42, 5, 42, 180, 0, 61, 182, 0, 47]
abbrev dktX2_number_2_4 : List UInt8 := dkwX2_number_2_4 ++ dktX2_number_2_5
def dkwX2_number_2_3 : List UInt8 := [16, 10, 29, 104, 42, 42, 180, 0, 36, 182, 0, 39, 96, 16, 48, 100, 62, 42, 89, 180, 0, 36, 4, 96]
abbrev dktX2_number_2_3 : List UInt8 := dkwX2_number_2_3 ++ dktX2_number_2_4
def dkwX2_number_2_2 : List UInt8 := [42, 180, 0, 36, 42, 180, 0, 61, 100, 7, 160, 0, 13, 42, 4, 42, 180, 0, 36, 182, 0, 47, 191]
abbrev dktX2_number_2_2 : List UInt8 := dkwX2_number_2_2 ++ dktX2_number_2_3
def dkwX2_number_2_1 : List UInt8 := [42, 42, 180, 0, 36, 181, 0, 61, 3, 62, 42, 42, 180, 0, 36, 182, 0, 39, 184, 0, 55, 153, 0, 56]
abbrev dktX2_number_2_1 : List UInt8 := dkwX2_number_2_1 ++ dktX2_number_2_2
def dkwX2_number_2_0 : List UInt8 := [42, 182, 0, 43, 184, 0, 55, 154, 0, 13, 42, 4, 42, 180, 0, 36, 182, 0, 47, 191, 42, 182, 0, 58]
abbrev dktX2_number_2_0 : List UInt8 := dkwX2_number_2_0 ++ dktX2_number_2_1
theorem dksX2_number_2_0 : cX2_number_2.data.toList.drop 0 = dktX2_number_2_0 := by decide +kernel
theorem dksX2_number_2_1 : cX2_number_2.data.toList.drop 24 = dktX2_number_2_1 := dk_seg dksX2_number_2_0 24 rfl rfl
theorem dksX2_number_2_2 : cX2_number_2.data.toList.drop 48 = dktX2_number_2_2 := dk_seg dksX2_number_2_1 24 rfl rfl
theorem dksX2_number_2_3 : cX2_number_2.data.toList.drop 71 = dktX2_number_2_3 := dk_seg dksX2_number_2_2 23 rfl rfl
theorem dksX2_number_2_4 : cX2_number_2.data.toList.drop 95 = dktX2_number_2_4 := dk_seg dksX2_number_2_3 24 rfl rfl
theorem dksX2_number_2_5 : cX2_number_2.data.toList.drop 119 = dktX2_number_2_5 := dk_seg dksX2_number_2_4 24 rfl rfl
theorem dX2_number_2_0 : decode cX2_number_2 0 = .ok (.aload_n 0, 1) := dk_42 (dk_at dksX2_number_2_0 0 rfl rfl)
theorem dX2_number_2_1 : decode cX2_number_2 1 = .ok (.invokevirtual 43, 3) := dk_182 0 43 (dk_at dksX2_number_2_0 1 rfl rfl)
theorem dX2_number_2_4 : decode cX2_number_2 4 = .ok (.invokestatic 55, 3) := dk_184 0 55 (dk_at dksX2_number_2_0 4 rfl rfl)
theorem dX2_number_2_7 : decode cX2_number_2 7 = .ok (.ifCond .ne 13, 3) := dk_154 0 13 (dk_at dksX2_number_2_0 7 rfl rfl)
theorem dX2_number_2_10 : decode cX2_number_2 10 = .ok (.aload_n 0, 1) := dk_42 (dk_at dksX2_number_2_0 10 rfl rfl)
theorem dX2_number_2_11 : decode cX2_number_2 11 = .ok (.iconst 1, 1) := dk_4 (dk_at dksX2_number_2_0 11 rfl rfl)
theorem dX2_number_2_12 : decode cX2_number_2 12 = .ok (.aload_n 0, 1) := dk_42 (dk_at dksX2_number_2_0 12 rfl rfl)
theorem dX2_number_2_13 : decode cX2_number_2 13 = .ok (.getfield 36, 3) := dk_180 0 36 (dk_at dksX2_number_2_0 13 rfl rfl)
theorem dX2_number_2_16 : decode cX2_number_2 16 = .ok (.invokevirtual 47, 3) := dk_182 0 47 (dk_at dksX2_number_2_0 16 rfl rfl)
theorem dX2_number_2_19 : decode cX2_number_2 19 = .ok (.athrow, 1) := dk_191 (dk_at dksX2_number_2_0 19 rfl rfl)
theorem dX2_number_2_20 : decode cX2_number_2 20 = .ok (.aload_n 0, 1) := dk_42 (dk_at dksX2_number_2_0 20 rfl rfl)
theorem dX2_number_2_21 : decode cX2_number_2 21 = .ok (.invokevirtual 58, 3) := dk_182 0 58 (dk_at dksX2_number_2_0 21 rfl rfl)
theorem dX2_number_2_24 : decode cX2_number_2 24 = .ok (.aload_n 0, 1) := dk_42 (dk_at dksX2_number_2_1 0 rfl rfl)
theorem dX2_number_2_25 : decode cX2_number_2 25 = .ok (.aload_n 0, 1) := dk_42 (dk_at dksX2_number_2_1 1 rfl rfl)
theorem dX2_number_2_26 : decode cX2_number_2 26 = .ok (.getfield 36, 3) := dk_180 0 36 (dk_at dksX2_number_2_1 2 rfl rfl)
theorem dX2_number_2_29 : decode cX2_number_2 29 = .ok (.putfield 61, 3) := dk_181 0 61 (dk_at dksX2_number_2_1 5 rfl rfl)
theorem dX2_number_2_32 : decode cX2_number_2 32 = .ok (.iconst 0, 1) := dk_3 (dk_at dksX2_number_2_1 8 rfl rfl)
theorem dX2_number_2_33 : decode cX2_number_2 33 = .ok (.istore_n 3, 1) := dk_62 (dk_at dksX2_number_2_1 9 rfl rfl)
theorem dX2_number_2_34 : decode cX2_number_2 34 = .ok (.aload_n 0, 1) := dk_42 (dk_at dksX2_number_2_1 10 rfl rfl)
theorem dX2_number_2_35 : decode cX2_number_2 35 = .ok (.aload_n 0, 1) := dk_42 (dk_at dksX2_number_2_1 11 rfl rfl)
theorem dX2_number_2_36 : decode cX2_number_2 36 = .ok (.getfield 36, 3) := dk_180 0 36 (dk_at dksX2_number_2_1 12 rfl rfl)
theorem dX2_number_2_39 : decode cX2_number_2 39 = .ok (.invokevirtual 39, 3) := dk_182 0 39 (dk_at dksX2_number_2_1 15 rfl rfl)
theorem dX2_number_2_42 : decode cX2_number_2 42 = .ok (.invokestatic 55, 3) := dk_184 0 55 (dk_at dksX2_number_2_1 18 rfl rfl)
theorem dX2_number_2_45 : decode cX2_number_2 45 = .ok (.ifCond .eq 56, 3) := dk_153 0 56 (dk_at dksX2_number_2_1 21 rfl rfl)
theorem dX2_number_2_48 : decode cX2_number_2 48 = .ok (.aload_n 0, 1) := dk_42 (dk_at dksX2_number_2_2 0 rfl rfl)
theorem dX2_number_2_49 : decode cX2_number_2 49 = .ok (.getfield 36, 3) := dk_180 0 36 (dk_at dksX2_number_2_2 1 rfl rfl)
theorem dX2_number_2_52 : decode cX2_number_2 52 = .ok (.aload_n 0, 1) := dk_42 (dk_at dksX2_number_2_2 4 rfl rfl)
theorem dX2_number_2_53 : decode cX2_number_2 53 = .ok (.getfield 61, 3) := dk_180 0 61 (dk_at dksX2_number_2_2 5 rfl rfl)
theorem dX2_number_2_56 : decode cX2_number_2 56 = .ok (.isub, 1) := dk_100 (dk_at dksX2_number_2_2 8 rfl rfl)
theorem dX2_number_2_57 : decode cX2_number_2 57 = .ok (.iconst 4, 1) := dk_7 (dk_at dksX2_number_2_2 9 rfl rfl)
theorem dX2_number_2_58 : decode cX2_number_2 58 = .ok (.if_icmp .ne 13, 3) := dk_160 0 13 (dk_at dksX2_number_2_2 10 rfl rfl)
theorem dX2_number_2_61 : decode cX2_number_2 61 = .ok (.aload_n 0, 1) := dk_42 (dk_at dksX2_number_2_2 13 rfl rfl)
theorem dX2_number_2_62 : decode cX2_number_2 62 = .ok (.iconst 1, 1) := dk_4 (dk_at dksX2_number_2_2 14 rfl rfl)
theorem dX2_number_2_63 : decode cX2_number_2 63 = .ok (.aload_n 0, 1) := dk_42 (dk_at dksX2_number_2_2 15 rfl rfl)
theorem dX2_number_2_64 : decode cX2_number_2 64 = .ok (.getfield 36, 3) := dk_180 0 36 (dk_at dksX2_number_2_2 16 rfl rfl)
theorem dX2_number_2_67 : decode cX2_number_2 67 = .ok (.invokevirtual 47, 3) := dk_182 0 47 (dk_at dksX2_number_2_2 19 rfl rfl)
theorem dX2_number_2_70 : decode cX2_number_2 70 = .ok (.athrow, 1) := dk_191 (dk_at dksX2_number_2_2 22 rfl rfl)
theorem dX2_number_2_71 : decode cX2_number_2 71 = .ok (.bipush 10, 2) := dk_16 10 (dk_at dksX2_number_2_3 0 rfl rfl)
theorem dX2_number_2_73 : decode cX2_number_2 73 = .ok (.iload_n 3, 1) := dk_29 (dk_at dksX2_number_2_3 2 rfl rfl)
theorem dX2_number_2_74 : decode cX2_number_2 74 = .ok (.imul, 1) := dk_104 (dk_at dksX2_number_2_3 3 rfl rfl)
theorem dX2_number_2_75 : decode cX2_number_2 75 = .ok (.aload_n 0, 1) := dk_42 (dk_at dksX2_number_2_3 4 rfl rfl)
theorem dX2_number_2_76 : decode cX2_number_2 76 = .ok (.aload_n 0, 1) := dk_42 (dk_at dksX2_number_2_3 5 rfl rfl)
theorem dX2_number_2_77 : decode cX2_number_2 77 = .ok (.getfield 36, 3) := dk_180 0 36 (dk_at dksX2_number_2_3 6 rfl rfl)
theorem dX2_number_2_80 : decode cX2_number_2 80 = .ok (.invokevirtual 39, 3) := dk_182 0 39 (dk_at dksX2_number_2_3 9 rfl rfl)
theorem dX2_number_2_83 : decode cX2_number_2 83 = .ok (.iadd, 1) := dk_96 (dk_at dksX2_number_2_3 12 rfl rfl)
theorem dX2_number_2_84 : decode cX2_number_2 84 = .ok (.bipush 48, 2) := dk_16 48 (dk_at dksX2_number_2_3 13 rfl rfl)
theorem dX2_number_2_86 : decode cX2_number_2 86 = .ok (.isub, 1) := dk_100 (dk_at dksX2_number_2_3 15 rfl rfl)
theorem dX2_number_2_87 : decode cX2_number_2 87 = .ok (.istore_n 3, 1) := dk_62 (dk_at dksX2_number_2_3 16 rfl rfl)
theorem dX2_number_2_88 : decode cX2_number_2 88 = .ok (.aload_n 0, 1) := dk_42 (dk_at dksX2_number_2_3 17 rfl rfl)
theorem dX2_number_2_89 : decode cX2_number_2 89 = .ok (.dup, 1) := dk_89 (dk_at dksX2_number_2_3 18 rfl rfl)
theorem dX2_number_2_90 : decode cX2_number_2 90 = .ok (.getfield 36, 3) := dk_180 0 36 (dk_at dksX2_number_2_3 19 rfl rfl)
theorem dX2_number_2_93 : decode cX2_number_2 93 = .ok (.iconst 1, 1) := dk_4 (dk_at dksX2_number_2_3 22 rfl rfl)
theorem dX2_number_2_94 : decode cX2_number_2 94 = .ok (.iadd, 1) := dk_96 (dk_at dksX2_number_2_3 23 rfl rfl)
theorem dX2_number_2_95 : decode cX2_number_2 95 = .ok (.putfield 36, 3) := dk_181 0 36 (dk_at dksX2_number_2_4 0 rfl rfl)
theorem dX2_number_2_98 : decode cX2_number_2 98 = .ok (.goto (-64), 3) := dk_167 255 192 (dk_at dksX2_number_2_4 3 rfl rfl)
theorem dX2_number_2_101 : decode cX2_number_2 101 = .ok (.iload_n 3, 1) := dk_29 (dk_at dksX2_number_2_4 6 rfl rfl)
theorem dX2_number_2_102 : decode cX2_number_2 102 = .ok (.iload_n 1, 1) := dk_27 (dk_at dksX2_number_2_4 7 rfl rfl)
theorem dX2_number_2_103 : decode cX2_number_2 103 = .ok (.iload_n 2, 1) := dk_28 (dk_at dksX2_number_2_4 8 rfl rfl)
theorem dX2_number_2_104 : decode cX2_number_2 104 = .ok (.invokestatic 89, 3) := dk_184 0 89 (dk_at dksX2_number_2_4 9 rfl rfl)
theorem dX2_number_2_107 : decode cX2_number_2 107 = .ok (.ifCond .ne 13, 3) := dk_154 0 13 (dk_at dksX2_number_2_4 12 rfl rfl)
theorem dX2_number_2_110 : decode cX2_number_2 110 = .ok (.aload_n 0, 1) := dk_42 (dk_at dksX2_number_2_4 15 rfl rfl)
theorem dX2_number_2_111 : decode cX2_number_2 111 = .ok (.iconst 2, 1) := dk_5 (dk_at dksX2_number_2_4 16 rfl rfl)
theorem dX2_number_2_112 : decode cX2_number_2 112 = .ok (.aload_n 0, 1) := dk_42 (dk_at dksX2_number_2_4 17 rfl rfl)
theorem dX2_number_2_113 : decode cX2_number_2 113 = .ok (.getfield 61, 3) := dk_180 0 61 (dk_at dksX2_number_2_4 18 rfl rfl)
theorem dX2_number_2_116 : decode cX2_number_2 116 = .ok (.invokevirtual 47, 3) := dk_182 0 47 (dk_at dksX2_number_2_4 21 rfl rfl)
theorem dX2_number_2_119 : decode cX2_number_2 119 = .ok (.athrow, 1) := dk_191 (dk_at dksX2_number_2_5 0 rfl rfl)
theorem dX2_number_2_120 : decode cX2_number_2 120 = .ok (.iload_n 3, 1) := dk_29 (dk_at dksX2_number_2_5 1 rfl rfl)
theorem dX2_number_2_121 : decode cX2_number_2 121 = .ok (.ireturn, 1) := dk_172 (dk_at dksX2_number_2_5 2 rfl rfl)
abbrev cX2_known : ByteArray := prog_17_method_14_code
def yX2_known : MethodName := ⟨RX2, "known", "(Ljava/util/List;)I"⟩
def dkwX2_known_1 : List UInt8 := [28, 172]
abbrev dktX2_known_1 : List UInt8 := dkwX2_known_1 ++ []
def dkwX2_known_0 : List UInt8 := [43, 42, 182, 0, 100, 184, 0, 113, 61, 28, 2, 160, 0, 13, 42, 6, 42, 180, 0, 61, 182, 0, 47, 191]
abbrev dktX2_known_0 : List UInt8 := dkwX2_known_0 ++ dktX2_known_1
theorem dksX2_known_0 : cX2_known.data.toList.drop 0 = dktX2_known_0 := by decide +kernel
theorem dksX2_known_1 : cX2_known.data.toList.drop 24 = dktX2_known_1 := dk_seg dksX2_known_0 24 rfl rfl
theorem dX2_known_0 : decode cX2_known 0 = .ok (.aload_n 1, 1) := dk_43 (dk_at dksX2_known_0 0 rfl rfl)
theorem dX2_known_1 : decode cX2_known 1 = .ok (.aload_n 0, 1) := dk_42 (dk_at dksX2_known_0 1 rfl rfl)
theorem dX2_known_2 : decode cX2_known 2 = .ok (.invokevirtual 100, 3) := dk_182 0 100 (dk_at dksX2_known_0 2 rfl rfl)
theorem dX2_known_5 : decode cX2_known 5 = .ok (.invokestatic 113, 3) := dk_184 0 113 (dk_at dksX2_known_0 5 rfl rfl)
theorem dX2_known_8 : decode cX2_known 8 = .ok (.istore_n 2, 1) := dk_61 (dk_at dksX2_known_0 8 rfl rfl)
theorem dX2_known_9 : decode cX2_known 9 = .ok (.iload_n 2, 1) := dk_28 (dk_at dksX2_known_0 9 rfl rfl)
theorem dX2_known_10 : decode cX2_known 10 = .ok (.iconst (-1), 1) := dk_2 (dk_at dksX2_known_0 10 rfl rfl)
theorem dX2_known_11 : decode cX2_known 11 = .ok (.if_icmp .ne 13, 3) := dk_160 0 13 (dk_at dksX2_known_0 11 rfl rfl)
theorem dX2_known_14 : decode cX2_known 14 = .ok (.aload_n 0, 1) := dk_42 (dk_at dksX2_known_0 14 rfl rfl)
theorem dX2_known_15 : decode cX2_known 15 = .ok (.iconst 3, 1) := dk_6 (dk_at dksX2_known_0 15 rfl rfl)
theorem dX2_known_16 : decode cX2_known 16 = .ok (.aload_n 0, 1) := dk_42 (dk_at dksX2_known_0 16 rfl rfl)
theorem dX2_known_17 : decode cX2_known 17 = .ok (.getfield 61, 3) := dk_180 0 61 (dk_at dksX2_known_0 17 rfl rfl)
theorem dX2_known_20 : decode cX2_known 20 = .ok (.invokevirtual 47, 3) := dk_182 0 47 (dk_at dksX2_known_0 20 rfl rfl)
theorem dX2_known_23 : decode cX2_known 23 = .ok (.athrow, 1) := dk_191 (dk_at dksX2_known_0 23 rfl rfl)
theorem dX2_known_24 : decode cX2_known 24 = .ok (.iload_n 2, 1) := dk_28 (dk_at dksX2_known_1 0 rfl rfl)
theorem dX2_known_25 : decode cX2_known 25 = .ok (.ireturn, 1) := dk_172 (dk_at dksX2_known_1 1 rfl rfl)
abbrev cX2_more : ByteArray := prog_17_method_20_code
def yX2_more : MethodName := ⟨RX2, "more", "(Ljava/lang/String;I)V"⟩
def dkwX2_more_14 : List UInt8 := [42, 3, 16, 100, 182, 0, 96, 181, 1, 1, 167, 0, 10, 42, 4, 28, 182, 0, 47, 191, 177]
abbrev dktX2_more_14 : List UInt8 := dkwX2_more_14 ++ []
def dkwX2_more_13 : List UInt8 := [167, 0, 44, 42, 180, 0, 103, 42, 3, 16, 99, 182, 0, 96, 181, 0, 255, 167, 0, 27, 42, 180, 0, 103]
abbrev dktX2_more_13 : List UInt8 := dkwX2_more_13 ++ dktX2_more_14
def dkwX2_more_12 : List UInt8 := [182, 0, 96, 181, 0, 251, 167, 0, 62, 42, 180, 0, 103, 42, 3, 17, 3, 231, 182, 0, 96, 181, 0, 253]
abbrev dktX2_more_12 : List UInt8 := dkwX2_more_12 ++ dktX2_more_13
def dkwX2_more_11 : List UInt8 := [181, 0, 214, 42, 180, 0, 103, 42, 182, 0, 247, 181, 0, 244, 167, 0, 78, 42, 180, 0, 103, 42, 4, 8]
abbrev dktX2_more_11 : List UInt8 := dkwX2_more_11 ++ dktX2_more_12
def dkwX2_more_10 : List UInt8 := [42, 180, 0, 103, 180, 0, 244, 198, 0, 7, 4, 167, 0, 4, 3, 28, 182, 0, 125, 42, 16, 57]
abbrev dktX2_more_10 : List UInt8 := dkwX2_more_10 ++ dktX2_more_11
def dkwX2_more_9 : List UInt8 := [42, 180, 0, 103, 42, 42, 180, 0, 103, 180, 0, 242, 28, 6, 182, 0, 238, 181, 0, 242, 167, 0, 118, 42]
abbrev dktX2_more_9 : List UInt8 := dkwX2_more_9 ++ dktX2_more_10
def dkwX2_more_8 : List UInt8 := [42, 180, 0, 103, 42, 42, 180, 0, 103, 180, 0, 235, 28, 16, 7, 182, 0, 238, 181, 0, 235, 167, 0, 141]
abbrev dktX2_more_8 : List UInt8 := dkwX2_more_8 ++ dktX2_more_9
def dkwX2_more_7 : List UInt8 := [170, 0, 0, 0, 0, 0, 198, 0, 0, 0, 0, 0, 0, 0, 6, 0, 0, 0, 43, 0, 0, 0, 67, 0, 0, 0, 90, 0, 0, 0, 130, 0, 0, 0, 146, 0, 0, 0, 164, 0, 0, 0, 181]
abbrev dktX2_more_7 : List UInt8 := dkwX2_more_7 ++ dktX2_more_8
def dkwX2_more_6 : List UInt8 := [153, 0, 7, 16, 6, 54, 4, 21, 4]
abbrev dktX2_more_6 : List UInt8 := dkwX2_more_6 ++ dktX2_more_7
def dkwX2_more_5 : List UInt8 := [167, 0, 31, 45, 18, 231, 182, 0, 74, 153, 0, 22, 8, 54, 4, 167, 0, 16, 45, 18, 233, 182, 0, 74]
abbrev dktX2_more_5 : List UInt8 := dkwX2_more_5 ++ dktX2_more_6
def dkwX2_more_4 : List UInt8 := [182, 0, 74, 153, 0, 52, 6, 54, 4, 167, 0, 46, 45, 18, 229, 182, 0, 74, 153, 0, 37, 7, 54, 4]
abbrev dktX2_more_4 : List UInt8 := dkwX2_more_4 ++ dktX2_more_5
def dkwX2_more_3 : List UInt8 := [4, 54, 4, 167, 0, 76, 45, 18, 225, 182, 0, 74, 153, 0, 67, 5, 54, 4, 167, 0, 61, 45, 18, 227]
abbrev dktX2_more_3 : List UInt8 := dkwX2_more_3 ++ dktX2_more_4
def dkwX2_more_2 : List UInt8 := [45, 18, 221, 182, 0, 74, 153, 0, 97, 3, 54, 4, 167, 0, 91, 45, 18, 223, 182, 0, 74, 153, 0, 82]
abbrev dktX2_more_2 : List UInt8 := dkwX2_more_2 ++ dktX2_more_3
def dkwX2_more_1 : List UInt8 := [171, 0, 0, 0, 0, 0, 170, 0, 0, 0, 7, 143, 210, 255, 124, 0, 0, 0, 157, 173, 141, 107, 238, 0, 0, 0, 142, 190, 8, 122, 175, 0, 0, 0, 67, 0, 1, 165, 101, 0, 0, 0, 97, 5, 202, 249, 119, 0, 0, 0, 82, 6, 95, 177, 73, 0, 0, 0, 127, 114, 210, 77, 135, 0, 0, 0, 112]
abbrev dktX2_more_1 : List UInt8 := dkwX2_more_1 ++ dktX2_more_2
def dkwX2_more_0 : List UInt8 := [43, 78, 2, 54, 4, 45, 182, 0, 141]
abbrev dktX2_more_0 : List UInt8 := dkwX2_more_0 ++ dktX2_more_1
theorem dksX2_more_0 : cX2_more.data.toList.drop 0 = dktX2_more_0 := by decide +kernel
theorem dksX2_more_1 : cX2_more.data.toList.drop 9 = dktX2_more_1 := dk_seg dksX2_more_0 9 rfl rfl
theorem dksX2_more_2 : cX2_more.data.toList.drop 76 = dktX2_more_2 := dk_seg dksX2_more_1 67 rfl rfl
theorem dksX2_more_3 : cX2_more.data.toList.drop 100 = dktX2_more_3 := dk_seg dksX2_more_2 24 rfl rfl
theorem dksX2_more_4 : cX2_more.data.toList.drop 124 = dktX2_more_4 := dk_seg dksX2_more_3 24 rfl rfl
theorem dksX2_more_5 : cX2_more.data.toList.drop 148 = dktX2_more_5 := dk_seg dksX2_more_4 24 rfl rfl
theorem dksX2_more_6 : cX2_more.data.toList.drop 172 = dktX2_more_6 := dk_seg dksX2_more_5 24 rfl rfl
theorem dksX2_more_7 : cX2_more.data.toList.drop 181 = dktX2_more_7 := dk_seg dksX2_more_6 9 rfl rfl
theorem dksX2_more_8 : cX2_more.data.toList.drop 224 = dktX2_more_8 := dk_seg dksX2_more_7 43 rfl rfl
theorem dksX2_more_9 : cX2_more.data.toList.drop 248 = dktX2_more_9 := dk_seg dksX2_more_8 24 rfl rfl
theorem dksX2_more_10 : cX2_more.data.toList.drop 272 = dktX2_more_10 := dk_seg dksX2_more_9 24 rfl rfl
theorem dksX2_more_11 : cX2_more.data.toList.drop 294 = dktX2_more_11 := dk_seg dksX2_more_10 22 rfl rfl
theorem dksX2_more_12 : cX2_more.data.toList.drop 318 = dktX2_more_12 := dk_seg dksX2_more_11 24 rfl rfl
theorem dksX2_more_13 : cX2_more.data.toList.drop 342 = dktX2_more_13 := dk_seg dksX2_more_12 24 rfl rfl
theorem dksX2_more_14 : cX2_more.data.toList.drop 366 = dktX2_more_14 := dk_seg dksX2_more_13 24 rfl rfl
theorem dX2_more_0 : decode cX2_more 0 = .ok (.aload_n 1, 1) := dk_43 (dk_at dksX2_more_0 0 rfl rfl)
theorem dX2_more_1 : decode cX2_more 1 = .ok (.astore_n 3, 1) := dk_78 (dk_at dksX2_more_0 1 rfl rfl)
theorem dX2_more_2 : decode cX2_more 2 = .ok (.iconst (-1), 1) := dk_2 (dk_at dksX2_more_0 2 rfl rfl)
theorem dX2_more_3 : decode cX2_more 3 = .ok (.istore 4, 2) := dk_54 4 (dk_at dksX2_more_0 3 rfl rfl)
theorem dX2_more_5 : decode cX2_more 5 = .ok (.aload_n 3, 1) := dk_45 (dk_at dksX2_more_0 5 rfl rfl)
theorem dX2_more_6 : decode cX2_more 6 = .ok (.invokevirtual 141, 3) := dk_182 0 141 (dk_at dksX2_more_0 6 rfl rfl)
theorem dX2_more_9 : decode cX2_more 9 = .ok (.lookupswitch 170 #[(-1881997444, 157), (-1383240722, 142), (-1106740561, 67), (107877, 97), (97188215, 82), (106934601, 127), (1926385031, 112)], 67) := by decide +kernel
theorem dX2_more_76 : decode cX2_more 76 = .ok (.aload_n 3, 1) := dk_45 (dk_at dksX2_more_2 0 rfl rfl)
theorem dX2_more_77 : decode cX2_more 77 = .ok (.ldc 221, 2) := dk_18 221 (dk_at dksX2_more_2 1 rfl rfl)
theorem dX2_more_79 : decode cX2_more 79 = .ok (.invokevirtual 74, 3) := dk_182 0 74 (dk_at dksX2_more_2 3 rfl rfl)
theorem dX2_more_82 : decode cX2_more 82 = .ok (.ifCond .eq 97, 3) := dk_153 0 97 (dk_at dksX2_more_2 6 rfl rfl)
theorem dX2_more_85 : decode cX2_more 85 = .ok (.iconst 0, 1) := dk_3 (dk_at dksX2_more_2 9 rfl rfl)
theorem dX2_more_86 : decode cX2_more 86 = .ok (.istore 4, 2) := dk_54 4 (dk_at dksX2_more_2 10 rfl rfl)
theorem dX2_more_88 : decode cX2_more 88 = .ok (.goto 91, 3) := dk_167 0 91 (dk_at dksX2_more_2 12 rfl rfl)
theorem dX2_more_91 : decode cX2_more 91 = .ok (.aload_n 3, 1) := dk_45 (dk_at dksX2_more_2 15 rfl rfl)
theorem dX2_more_92 : decode cX2_more 92 = .ok (.ldc 223, 2) := dk_18 223 (dk_at dksX2_more_2 16 rfl rfl)
theorem dX2_more_94 : decode cX2_more 94 = .ok (.invokevirtual 74, 3) := dk_182 0 74 (dk_at dksX2_more_2 18 rfl rfl)
theorem dX2_more_97 : decode cX2_more 97 = .ok (.ifCond .eq 82, 3) := dk_153 0 82 (dk_at dksX2_more_2 21 rfl rfl)
theorem dX2_more_100 : decode cX2_more 100 = .ok (.iconst 1, 1) := dk_4 (dk_at dksX2_more_3 0 rfl rfl)
theorem dX2_more_101 : decode cX2_more 101 = .ok (.istore 4, 2) := dk_54 4 (dk_at dksX2_more_3 1 rfl rfl)
theorem dX2_more_103 : decode cX2_more 103 = .ok (.goto 76, 3) := dk_167 0 76 (dk_at dksX2_more_3 3 rfl rfl)
theorem dX2_more_106 : decode cX2_more 106 = .ok (.aload_n 3, 1) := dk_45 (dk_at dksX2_more_3 6 rfl rfl)
theorem dX2_more_107 : decode cX2_more 107 = .ok (.ldc 225, 2) := dk_18 225 (dk_at dksX2_more_3 7 rfl rfl)
theorem dX2_more_109 : decode cX2_more 109 = .ok (.invokevirtual 74, 3) := dk_182 0 74 (dk_at dksX2_more_3 9 rfl rfl)
theorem dX2_more_112 : decode cX2_more 112 = .ok (.ifCond .eq 67, 3) := dk_153 0 67 (dk_at dksX2_more_3 12 rfl rfl)
theorem dX2_more_115 : decode cX2_more 115 = .ok (.iconst 2, 1) := dk_5 (dk_at dksX2_more_3 15 rfl rfl)
theorem dX2_more_116 : decode cX2_more 116 = .ok (.istore 4, 2) := dk_54 4 (dk_at dksX2_more_3 16 rfl rfl)
theorem dX2_more_118 : decode cX2_more 118 = .ok (.goto 61, 3) := dk_167 0 61 (dk_at dksX2_more_3 18 rfl rfl)
theorem dX2_more_121 : decode cX2_more 121 = .ok (.aload_n 3, 1) := dk_45 (dk_at dksX2_more_3 21 rfl rfl)
theorem dX2_more_122 : decode cX2_more 122 = .ok (.ldc 227, 2) := dk_18 227 (dk_at dksX2_more_3 22 rfl rfl)
theorem dX2_more_124 : decode cX2_more 124 = .ok (.invokevirtual 74, 3) := dk_182 0 74 (dk_at dksX2_more_4 0 rfl rfl)
theorem dX2_more_127 : decode cX2_more 127 = .ok (.ifCond .eq 52, 3) := dk_153 0 52 (dk_at dksX2_more_4 3 rfl rfl)
theorem dX2_more_130 : decode cX2_more 130 = .ok (.iconst 3, 1) := dk_6 (dk_at dksX2_more_4 6 rfl rfl)
theorem dX2_more_131 : decode cX2_more 131 = .ok (.istore 4, 2) := dk_54 4 (dk_at dksX2_more_4 7 rfl rfl)
theorem dX2_more_133 : decode cX2_more 133 = .ok (.goto 46, 3) := dk_167 0 46 (dk_at dksX2_more_4 9 rfl rfl)
theorem dX2_more_136 : decode cX2_more 136 = .ok (.aload_n 3, 1) := dk_45 (dk_at dksX2_more_4 12 rfl rfl)
theorem dX2_more_137 : decode cX2_more 137 = .ok (.ldc 229, 2) := dk_18 229 (dk_at dksX2_more_4 13 rfl rfl)
theorem dX2_more_139 : decode cX2_more 139 = .ok (.invokevirtual 74, 3) := dk_182 0 74 (dk_at dksX2_more_4 15 rfl rfl)
theorem dX2_more_142 : decode cX2_more 142 = .ok (.ifCond .eq 37, 3) := dk_153 0 37 (dk_at dksX2_more_4 18 rfl rfl)
theorem dX2_more_145 : decode cX2_more 145 = .ok (.iconst 4, 1) := dk_7 (dk_at dksX2_more_4 21 rfl rfl)
theorem dX2_more_146 : decode cX2_more 146 = .ok (.istore 4, 2) := dk_54 4 (dk_at dksX2_more_4 22 rfl rfl)
theorem dX2_more_148 : decode cX2_more 148 = .ok (.goto 31, 3) := dk_167 0 31 (dk_at dksX2_more_5 0 rfl rfl)
theorem dX2_more_151 : decode cX2_more 151 = .ok (.aload_n 3, 1) := dk_45 (dk_at dksX2_more_5 3 rfl rfl)
theorem dX2_more_152 : decode cX2_more 152 = .ok (.ldc 231, 2) := dk_18 231 (dk_at dksX2_more_5 4 rfl rfl)
theorem dX2_more_154 : decode cX2_more 154 = .ok (.invokevirtual 74, 3) := dk_182 0 74 (dk_at dksX2_more_5 6 rfl rfl)
theorem dX2_more_157 : decode cX2_more 157 = .ok (.ifCond .eq 22, 3) := dk_153 0 22 (dk_at dksX2_more_5 9 rfl rfl)
theorem dX2_more_160 : decode cX2_more 160 = .ok (.iconst 5, 1) := dk_8 (dk_at dksX2_more_5 12 rfl rfl)
theorem dX2_more_161 : decode cX2_more 161 = .ok (.istore 4, 2) := dk_54 4 (dk_at dksX2_more_5 13 rfl rfl)
theorem dX2_more_163 : decode cX2_more 163 = .ok (.goto 16, 3) := dk_167 0 16 (dk_at dksX2_more_5 15 rfl rfl)
theorem dX2_more_166 : decode cX2_more 166 = .ok (.aload_n 3, 1) := dk_45 (dk_at dksX2_more_5 18 rfl rfl)
theorem dX2_more_167 : decode cX2_more 167 = .ok (.ldc 233, 2) := dk_18 233 (dk_at dksX2_more_5 19 rfl rfl)
theorem dX2_more_169 : decode cX2_more 169 = .ok (.invokevirtual 74, 3) := dk_182 0 74 (dk_at dksX2_more_5 21 rfl rfl)
theorem dX2_more_172 : decode cX2_more 172 = .ok (.ifCond .eq 7, 3) := dk_153 0 7 (dk_at dksX2_more_6 0 rfl rfl)
theorem dX2_more_175 : decode cX2_more 175 = .ok (.bipush 6, 2) := dk_16 6 (dk_at dksX2_more_6 3 rfl rfl)
theorem dX2_more_177 : decode cX2_more 177 = .ok (.istore 4, 2) := dk_54 4 (dk_at dksX2_more_6 5 rfl rfl)
theorem dX2_more_179 : decode cX2_more 179 = .ok (.iload 4, 2) := dk_21 4 (dk_at dksX2_more_6 7 rfl rfl)
theorem dX2_more_181 : decode cX2_more 181 = .ok (.tableswitch 198 0 6 #[43, 67, 90, 130, 146, 164, 181], 43) := by decide +kernel
theorem dX2_more_224 : decode cX2_more 224 = .ok (.aload_n 0, 1) := dk_42 (dk_at dksX2_more_8 0 rfl rfl)
theorem dX2_more_225 : decode cX2_more 225 = .ok (.getfield 103, 3) := dk_180 0 103 (dk_at dksX2_more_8 1 rfl rfl)
theorem dX2_more_228 : decode cX2_more 228 = .ok (.aload_n 0, 1) := dk_42 (dk_at dksX2_more_8 4 rfl rfl)
theorem dX2_more_229 : decode cX2_more 229 = .ok (.aload_n 0, 1) := dk_42 (dk_at dksX2_more_8 5 rfl rfl)
theorem dX2_more_230 : decode cX2_more 230 = .ok (.getfield 103, 3) := dk_180 0 103 (dk_at dksX2_more_8 6 rfl rfl)
theorem dX2_more_233 : decode cX2_more 233 = .ok (.getfield 235, 3) := dk_180 0 235 (dk_at dksX2_more_8 9 rfl rfl)
theorem dX2_more_236 : decode cX2_more 236 = .ok (.iload_n 2, 1) := dk_28 (dk_at dksX2_more_8 12 rfl rfl)
theorem dX2_more_237 : decode cX2_more 237 = .ok (.bipush 7, 2) := dk_16 7 (dk_at dksX2_more_8 13 rfl rfl)
theorem dX2_more_239 : decode cX2_more 239 = .ok (.invokevirtual 238, 3) := dk_182 0 238 (dk_at dksX2_more_8 15 rfl rfl)
theorem dX2_more_242 : decode cX2_more 242 = .ok (.putfield 235, 3) := dk_181 0 235 (dk_at dksX2_more_8 18 rfl rfl)
theorem dX2_more_245 : decode cX2_more 245 = .ok (.goto 141, 3) := dk_167 0 141 (dk_at dksX2_more_8 21 rfl rfl)
theorem dX2_more_248 : decode cX2_more 248 = .ok (.aload_n 0, 1) := dk_42 (dk_at dksX2_more_9 0 rfl rfl)
theorem dX2_more_249 : decode cX2_more 249 = .ok (.getfield 103, 3) := dk_180 0 103 (dk_at dksX2_more_9 1 rfl rfl)
theorem dX2_more_252 : decode cX2_more 252 = .ok (.aload_n 0, 1) := dk_42 (dk_at dksX2_more_9 4 rfl rfl)
theorem dX2_more_253 : decode cX2_more 253 = .ok (.aload_n 0, 1) := dk_42 (dk_at dksX2_more_9 5 rfl rfl)
theorem dX2_more_254 : decode cX2_more 254 = .ok (.getfield 103, 3) := dk_180 0 103 (dk_at dksX2_more_9 6 rfl rfl)
theorem dX2_more_257 : decode cX2_more 257 = .ok (.getfield 242, 3) := dk_180 0 242 (dk_at dksX2_more_9 9 rfl rfl)
theorem dX2_more_260 : decode cX2_more 260 = .ok (.iload_n 2, 1) := dk_28 (dk_at dksX2_more_9 12 rfl rfl)
theorem dX2_more_261 : decode cX2_more 261 = .ok (.iconst 3, 1) := dk_6 (dk_at dksX2_more_9 13 rfl rfl)
theorem dX2_more_262 : decode cX2_more 262 = .ok (.invokevirtual 238, 3) := dk_182 0 238 (dk_at dksX2_more_9 14 rfl rfl)
theorem dX2_more_265 : decode cX2_more 265 = .ok (.putfield 242, 3) := dk_181 0 242 (dk_at dksX2_more_9 17 rfl rfl)
theorem dX2_more_268 : decode cX2_more 268 = .ok (.goto 118, 3) := dk_167 0 118 (dk_at dksX2_more_9 20 rfl rfl)
theorem dX2_more_271 : decode cX2_more 271 = .ok (.aload_n 0, 1) := dk_42 (dk_at dksX2_more_9 23 rfl rfl)
theorem dX2_more_272 : decode cX2_more 272 = .ok (.aload_n 0, 1) := dk_42 (dk_at dksX2_more_10 0 rfl rfl)
theorem dX2_more_273 : decode cX2_more 273 = .ok (.getfield 103, 3) := dk_180 0 103 (dk_at dksX2_more_10 1 rfl rfl)
theorem dX2_more_276 : decode cX2_more 276 = .ok (.getfield 244, 3) := dk_180 0 244 (dk_at dksX2_more_10 4 rfl rfl)
theorem dX2_more_279 : decode cX2_more 279 = .ok (.ifnull 7, 3) := dk_198 0 7 (dk_at dksX2_more_10 7 rfl rfl)
theorem dX2_more_282 : decode cX2_more 282 = .ok (.iconst 1, 1) := dk_4 (dk_at dksX2_more_10 10 rfl rfl)
theorem dX2_more_283 : decode cX2_more 283 = .ok (.goto 4, 3) := dk_167 0 4 (dk_at dksX2_more_10 11 rfl rfl)
theorem dX2_more_286 : decode cX2_more 286 = .ok (.iconst 0, 1) := dk_3 (dk_at dksX2_more_10 14 rfl rfl)
theorem dX2_more_287 : decode cX2_more 287 = .ok (.iload_n 2, 1) := dk_28 (dk_at dksX2_more_10 15 rfl rfl)
theorem dX2_more_288 : decode cX2_more 288 = .ok (.invokevirtual 125, 3) := dk_182 0 125 (dk_at dksX2_more_10 16 rfl rfl)
theorem dX2_more_291 : decode cX2_more 291 = .ok (.aload_n 0, 1) := dk_42 (dk_at dksX2_more_10 19 rfl rfl)
theorem dX2_more_292 : decode cX2_more 292 = .ok (.bipush 57, 2) := dk_16 57 (dk_at dksX2_more_10 20 rfl rfl)
theorem dX2_more_294 : decode cX2_more 294 = .ok (.putfield 214, 3) := dk_181 0 214 (dk_at dksX2_more_11 0 rfl rfl)
theorem dX2_more_297 : decode cX2_more 297 = .ok (.aload_n 0, 1) := dk_42 (dk_at dksX2_more_11 3 rfl rfl)
theorem dX2_more_298 : decode cX2_more 298 = .ok (.getfield 103, 3) := dk_180 0 103 (dk_at dksX2_more_11 4 rfl rfl)
theorem dX2_more_301 : decode cX2_more 301 = .ok (.aload_n 0, 1) := dk_42 (dk_at dksX2_more_11 7 rfl rfl)
theorem dX2_more_302 : decode cX2_more 302 = .ok (.invokevirtual 247, 3) := dk_182 0 247 (dk_at dksX2_more_11 8 rfl rfl)
theorem dX2_more_305 : decode cX2_more 305 = .ok (.putfield 244, 3) := dk_181 0 244 (dk_at dksX2_more_11 11 rfl rfl)
theorem dX2_more_308 : decode cX2_more 308 = .ok (.goto 78, 3) := dk_167 0 78 (dk_at dksX2_more_11 14 rfl rfl)
theorem dX2_more_311 : decode cX2_more 311 = .ok (.aload_n 0, 1) := dk_42 (dk_at dksX2_more_11 17 rfl rfl)
theorem dX2_more_312 : decode cX2_more 312 = .ok (.getfield 103, 3) := dk_180 0 103 (dk_at dksX2_more_11 18 rfl rfl)
theorem dX2_more_315 : decode cX2_more 315 = .ok (.aload_n 0, 1) := dk_42 (dk_at dksX2_more_11 21 rfl rfl)
theorem dX2_more_316 : decode cX2_more 316 = .ok (.iconst 1, 1) := dk_4 (dk_at dksX2_more_11 22 rfl rfl)
theorem dX2_more_317 : decode cX2_more 317 = .ok (.iconst 5, 1) := dk_8 (dk_at dksX2_more_11 23 rfl rfl)
theorem dX2_more_318 : decode cX2_more 318 = .ok (.invokevirtual 96, 3) := dk_182 0 96 (dk_at dksX2_more_12 0 rfl rfl)
theorem dX2_more_321 : decode cX2_more 321 = .ok (.putfield 251, 3) := dk_181 0 251 (dk_at dksX2_more_12 3 rfl rfl)
theorem dX2_more_324 : decode cX2_more 324 = .ok (.goto 62, 3) := dk_167 0 62 (dk_at dksX2_more_12 6 rfl rfl)
theorem dX2_more_327 : decode cX2_more 327 = .ok (.aload_n 0, 1) := dk_42 (dk_at dksX2_more_12 9 rfl rfl)
theorem dX2_more_328 : decode cX2_more 328 = .ok (.getfield 103, 3) := dk_180 0 103 (dk_at dksX2_more_12 10 rfl rfl)
theorem dX2_more_331 : decode cX2_more 331 = .ok (.aload_n 0, 1) := dk_42 (dk_at dksX2_more_12 13 rfl rfl)
theorem dX2_more_332 : decode cX2_more 332 = .ok (.iconst 0, 1) := dk_3 (dk_at dksX2_more_12 14 rfl rfl)
theorem dX2_more_333 : decode cX2_more 333 = .ok (.sipush 999, 3) := dk_17 3 231 (dk_at dksX2_more_12 15 rfl rfl)
theorem dX2_more_336 : decode cX2_more 336 = .ok (.invokevirtual 96, 3) := dk_182 0 96 (dk_at dksX2_more_12 18 rfl rfl)
theorem dX2_more_339 : decode cX2_more 339 = .ok (.putfield 253, 3) := dk_181 0 253 (dk_at dksX2_more_12 21 rfl rfl)
theorem dX2_more_342 : decode cX2_more 342 = .ok (.goto 44, 3) := dk_167 0 44 (dk_at dksX2_more_13 0 rfl rfl)
theorem dX2_more_345 : decode cX2_more 345 = .ok (.aload_n 0, 1) := dk_42 (dk_at dksX2_more_13 3 rfl rfl)
theorem dX2_more_346 : decode cX2_more 346 = .ok (.getfield 103, 3) := dk_180 0 103 (dk_at dksX2_more_13 4 rfl rfl)
theorem dX2_more_349 : decode cX2_more 349 = .ok (.aload_n 0, 1) := dk_42 (dk_at dksX2_more_13 7 rfl rfl)
theorem dX2_more_350 : decode cX2_more 350 = .ok (.iconst 0, 1) := dk_3 (dk_at dksX2_more_13 8 rfl rfl)
theorem dX2_more_351 : decode cX2_more 351 = .ok (.bipush 99, 2) := dk_16 99 (dk_at dksX2_more_13 9 rfl rfl)
theorem dX2_more_353 : decode cX2_more 353 = .ok (.invokevirtual 96, 3) := dk_182 0 96 (dk_at dksX2_more_13 11 rfl rfl)
theorem dX2_more_356 : decode cX2_more 356 = .ok (.putfield 255, 3) := dk_181 0 255 (dk_at dksX2_more_13 14 rfl rfl)
theorem dX2_more_359 : decode cX2_more 359 = .ok (.goto 27, 3) := dk_167 0 27 (dk_at dksX2_more_13 17 rfl rfl)
theorem dX2_more_362 : decode cX2_more 362 = .ok (.aload_n 0, 1) := dk_42 (dk_at dksX2_more_13 20 rfl rfl)
theorem dX2_more_363 : decode cX2_more 363 = .ok (.getfield 103, 3) := dk_180 0 103 (dk_at dksX2_more_13 21 rfl rfl)
theorem dX2_more_366 : decode cX2_more 366 = .ok (.aload_n 0, 1) := dk_42 (dk_at dksX2_more_14 0 rfl rfl)
theorem dX2_more_367 : decode cX2_more 367 = .ok (.iconst 0, 1) := dk_3 (dk_at dksX2_more_14 1 rfl rfl)
theorem dX2_more_368 : decode cX2_more 368 = .ok (.bipush 100, 2) := dk_16 100 (dk_at dksX2_more_14 2 rfl rfl)
theorem dX2_more_370 : decode cX2_more 370 = .ok (.invokevirtual 96, 3) := dk_182 0 96 (dk_at dksX2_more_14 4 rfl rfl)
theorem dX2_more_373 : decode cX2_more 373 = .ok (.putfield 257, 3) := dk_181 1 1 (dk_at dksX2_more_14 7 rfl rfl)
theorem dX2_more_376 : decode cX2_more 376 = .ok (.goto 10, 3) := dk_167 0 10 (dk_at dksX2_more_14 10 rfl rfl)
theorem dX2_more_379 : decode cX2_more 379 = .ok (.aload_n 0, 1) := dk_42 (dk_at dksX2_more_14 13 rfl rfl)
theorem dX2_more_380 : decode cX2_more 380 = .ok (.iconst 1, 1) := dk_4 (dk_at dksX2_more_14 14 rfl rfl)
theorem dX2_more_381 : decode cX2_more 381 = .ok (.iload_n 2, 1) := dk_28 (dk_at dksX2_more_14 15 rfl rfl)
theorem dX2_more_382 : decode cX2_more 382 = .ok (.invokevirtual 47, 3) := dk_182 0 47 (dk_at dksX2_more_14 16 rfl rfl)
theorem dX2_more_385 : decode cX2_more 385 = .ok (.athrow, 1) := dk_191 (dk_at dksX2_more_14 19 rfl rfl)
theorem dX2_more_386 : decode cX2_more 386 = .ok (.return_, 1) := dk_177 (dk_at dksX2_more_14 20 rfl rfl)
abbrev cX2_once : ByteArray := prog_17_method_19_code
def yX2_once : MethodName := ⟨RX2, "once", "(LFourOnOne$Value;II)LFourOnOne$Value;"⟩
def dkwX2_once_0 : List UInt8 := [42, 43, 198, 0, 7, 4, 167, 0, 4, 3, 28, 182, 0, 125, 42, 29, 181, 0, 214, 42, 182, 0, 217, 176]
abbrev dktX2_once_0 : List UInt8 := dkwX2_once_0 ++ []
theorem dksX2_once_0 : cX2_once.data.toList.drop 0 = dktX2_once_0 := by decide +kernel
theorem dX2_once_0 : decode cX2_once 0 = .ok (.aload_n 0, 1) := dk_42 (dk_at dksX2_once_0 0 rfl rfl)
theorem dX2_once_1 : decode cX2_once 1 = .ok (.aload_n 1, 1) := dk_43 (dk_at dksX2_once_0 1 rfl rfl)
theorem dX2_once_2 : decode cX2_once 2 = .ok (.ifnull 7, 3) := dk_198 0 7 (dk_at dksX2_once_0 2 rfl rfl)
theorem dX2_once_5 : decode cX2_once 5 = .ok (.iconst 1, 1) := dk_4 (dk_at dksX2_once_0 5 rfl rfl)
theorem dX2_once_6 : decode cX2_once 6 = .ok (.goto 4, 3) := dk_167 0 4 (dk_at dksX2_once_0 6 rfl rfl)
theorem dX2_once_9 : decode cX2_once 9 = .ok (.iconst 0, 1) := dk_3 (dk_at dksX2_once_0 9 rfl rfl)
theorem dX2_once_10 : decode cX2_once 10 = .ok (.iload_n 2, 1) := dk_28 (dk_at dksX2_once_0 10 rfl rfl)
theorem dX2_once_11 : decode cX2_once 11 = .ok (.invokevirtual 125, 3) := dk_182 0 125 (dk_at dksX2_once_0 11 rfl rfl)
theorem dX2_once_14 : decode cX2_once 14 = .ok (.aload_n 0, 1) := dk_42 (dk_at dksX2_once_0 14 rfl rfl)
theorem dX2_once_15 : decode cX2_once 15 = .ok (.iload_n 3, 1) := dk_29 (dk_at dksX2_once_0 15 rfl rfl)
theorem dX2_once_16 : decode cX2_once 16 = .ok (.putfield 214, 3) := dk_181 0 214 (dk_at dksX2_once_0 16 rfl rfl)
theorem dX2_once_19 : decode cX2_once 19 = .ok (.aload_n 0, 1) := dk_42 (dk_at dksX2_once_0 19 rfl rfl)
theorem dX2_once_20 : decode cX2_once 20 = .ok (.invokevirtual 217, 3) := dk_182 0 217 (dk_at dksX2_once_0 20 rfl rfl)
theorem dX2_once_23 : decode cX2_once 23 = .ok (.areturn, 1) := dk_176 (dk_at dksX2_once_0 23 rfl rfl)
abbrev cX2_sum : ByteArray := prog_17_method_22_code
def yX2_sum : MethodName := ⟨RX2, "sum", "()LFourOnOne$Value;"⟩
def dkwX2_sum_3 : List UInt8 := [167, 255, 206, 43, 176]
abbrev dktX2_sum_3 : List UInt8 := dkwX2_sum_3 ++ []
def dkwX2_sum_2 : List UInt8 := [16, 45, 182, 1, 12, 153, 0, 16, 43, 16, 45, 42, 182, 1, 6, 182, 1, 9, 167, 255, 211, 3, 61]
abbrev dktX2_sum_2 : List UInt8 := dkwX2_sum_2 ++ dktX2_sum_3
def dkwX2_sum_1 : List UInt8 := [42, 16, 43, 182, 1, 12, 153, 0, 16, 43, 16, 43, 42, 182, 1, 6, 182, 1, 9, 167, 255, 233, 42]
abbrev dktX2_sum_1 : List UInt8 := dkwX2_sum_1 ++ dktX2_sum_2
def dkwX2_sum_0 : List UInt8 := [187, 1, 3, 89, 183, 1, 5, 76, 43, 16, 43, 42, 182, 1, 6, 182, 1, 9, 4, 61, 28, 153, 0, 52]
abbrev dktX2_sum_0 : List UInt8 := dkwX2_sum_0 ++ dktX2_sum_1
theorem dksX2_sum_0 : cX2_sum.data.toList.drop 0 = dktX2_sum_0 := by decide +kernel
theorem dksX2_sum_1 : cX2_sum.data.toList.drop 24 = dktX2_sum_1 := dk_seg dksX2_sum_0 24 rfl rfl
theorem dksX2_sum_2 : cX2_sum.data.toList.drop 47 = dktX2_sum_2 := dk_seg dksX2_sum_1 23 rfl rfl
theorem dksX2_sum_3 : cX2_sum.data.toList.drop 70 = dktX2_sum_3 := dk_seg dksX2_sum_2 23 rfl rfl
theorem dX2_sum_0 : decode cX2_sum 0 = .ok (.new 259, 3) := dk_187 1 3 (dk_at dksX2_sum_0 0 rfl rfl)
theorem dX2_sum_3 : decode cX2_sum 3 = .ok (.dup, 1) := dk_89 (dk_at dksX2_sum_0 3 rfl rfl)
theorem dX2_sum_4 : decode cX2_sum 4 = .ok (.invokespecial 261, 3) := dk_183 1 5 (dk_at dksX2_sum_0 4 rfl rfl)
theorem dX2_sum_7 : decode cX2_sum 7 = .ok (.astore_n 1, 1) := dk_76 (dk_at dksX2_sum_0 7 rfl rfl)
theorem dX2_sum_8 : decode cX2_sum 8 = .ok (.aload_n 1, 1) := dk_43 (dk_at dksX2_sum_0 8 rfl rfl)
theorem dX2_sum_9 : decode cX2_sum 9 = .ok (.bipush 43, 2) := dk_16 43 (dk_at dksX2_sum_0 9 rfl rfl)
theorem dX2_sum_11 : decode cX2_sum 11 = .ok (.aload_n 0, 1) := dk_42 (dk_at dksX2_sum_0 11 rfl rfl)
theorem dX2_sum_12 : decode cX2_sum 12 = .ok (.invokevirtual 262, 3) := dk_182 1 6 (dk_at dksX2_sum_0 12 rfl rfl)
theorem dX2_sum_15 : decode cX2_sum 15 = .ok (.invokevirtual 265, 3) := dk_182 1 9 (dk_at dksX2_sum_0 15 rfl rfl)
theorem dX2_sum_18 : decode cX2_sum 18 = .ok (.iconst 1, 1) := dk_4 (dk_at dksX2_sum_0 18 rfl rfl)
theorem dX2_sum_19 : decode cX2_sum 19 = .ok (.istore_n 2, 1) := dk_61 (dk_at dksX2_sum_0 19 rfl rfl)
theorem dX2_sum_20 : decode cX2_sum 20 = .ok (.iload_n 2, 1) := dk_28 (dk_at dksX2_sum_0 20 rfl rfl)
theorem dX2_sum_21 : decode cX2_sum 21 = .ok (.ifCond .eq 52, 3) := dk_153 0 52 (dk_at dksX2_sum_0 21 rfl rfl)
theorem dX2_sum_24 : decode cX2_sum 24 = .ok (.aload_n 0, 1) := dk_42 (dk_at dksX2_sum_1 0 rfl rfl)
theorem dX2_sum_25 : decode cX2_sum 25 = .ok (.bipush 43, 2) := dk_16 43 (dk_at dksX2_sum_1 1 rfl rfl)
theorem dX2_sum_27 : decode cX2_sum 27 = .ok (.invokevirtual 268, 3) := dk_182 1 12 (dk_at dksX2_sum_1 3 rfl rfl)
theorem dX2_sum_30 : decode cX2_sum 30 = .ok (.ifCond .eq 16, 3) := dk_153 0 16 (dk_at dksX2_sum_1 6 rfl rfl)
theorem dX2_sum_33 : decode cX2_sum 33 = .ok (.aload_n 1, 1) := dk_43 (dk_at dksX2_sum_1 9 rfl rfl)
theorem dX2_sum_34 : decode cX2_sum 34 = .ok (.bipush 43, 2) := dk_16 43 (dk_at dksX2_sum_1 10 rfl rfl)
theorem dX2_sum_36 : decode cX2_sum 36 = .ok (.aload_n 0, 1) := dk_42 (dk_at dksX2_sum_1 12 rfl rfl)
theorem dX2_sum_37 : decode cX2_sum 37 = .ok (.invokevirtual 262, 3) := dk_182 1 6 (dk_at dksX2_sum_1 13 rfl rfl)
theorem dX2_sum_40 : decode cX2_sum 40 = .ok (.invokevirtual 265, 3) := dk_182 1 9 (dk_at dksX2_sum_1 16 rfl rfl)
theorem dX2_sum_43 : decode cX2_sum 43 = .ok (.goto (-23), 3) := dk_167 255 233 (dk_at dksX2_sum_1 19 rfl rfl)
theorem dX2_sum_46 : decode cX2_sum 46 = .ok (.aload_n 0, 1) := dk_42 (dk_at dksX2_sum_1 22 rfl rfl)
theorem dX2_sum_47 : decode cX2_sum 47 = .ok (.bipush 45, 2) := dk_16 45 (dk_at dksX2_sum_2 0 rfl rfl)
theorem dX2_sum_49 : decode cX2_sum 49 = .ok (.invokevirtual 268, 3) := dk_182 1 12 (dk_at dksX2_sum_2 2 rfl rfl)
theorem dX2_sum_52 : decode cX2_sum 52 = .ok (.ifCond .eq 16, 3) := dk_153 0 16 (dk_at dksX2_sum_2 5 rfl rfl)
theorem dX2_sum_55 : decode cX2_sum 55 = .ok (.aload_n 1, 1) := dk_43 (dk_at dksX2_sum_2 8 rfl rfl)
theorem dX2_sum_56 : decode cX2_sum 56 = .ok (.bipush 45, 2) := dk_16 45 (dk_at dksX2_sum_2 9 rfl rfl)
theorem dX2_sum_58 : decode cX2_sum 58 = .ok (.aload_n 0, 1) := dk_42 (dk_at dksX2_sum_2 11 rfl rfl)
theorem dX2_sum_59 : decode cX2_sum 59 = .ok (.invokevirtual 262, 3) := dk_182 1 6 (dk_at dksX2_sum_2 12 rfl rfl)
theorem dX2_sum_62 : decode cX2_sum 62 = .ok (.invokevirtual 265, 3) := dk_182 1 9 (dk_at dksX2_sum_2 15 rfl rfl)
theorem dX2_sum_65 : decode cX2_sum 65 = .ok (.goto (-45), 3) := dk_167 255 211 (dk_at dksX2_sum_2 18 rfl rfl)
theorem dX2_sum_68 : decode cX2_sum 68 = .ok (.iconst 0, 1) := dk_3 (dk_at dksX2_sum_2 21 rfl rfl)
theorem dX2_sum_69 : decode cX2_sum 69 = .ok (.istore_n 2, 1) := dk_61 (dk_at dksX2_sum_2 22 rfl rfl)
theorem dX2_sum_70 : decode cX2_sum 70 = .ok (.goto (-50), 3) := dk_167 255 206 (dk_at dksX2_sum_3 0 rfl rfl)
theorem dX2_sum_73 : decode cX2_sum 73 = .ok (.aload_n 1, 1) := dk_43 (dk_at dksX2_sum_3 3 rfl rfl)
theorem dX2_sum_74 : decode cX2_sum 74 = .ok (.areturn, 1) := dk_176 (dk_at dksX2_sum_3 4 rfl rfl)
abbrev cX2_product : ByteArray := prog_17_method_23_code
def yX2_product : MethodName := ⟨RX2, "product", "()LFourOnOne$Value;"⟩
def dkwX2_product_3 : List UInt8 := [167, 255, 206, 43, 176]
abbrev dktX2_product_3 : List UInt8 := dkwX2_product_3 ++ []
def dkwX2_product_2 : List UInt8 := [16, 47, 182, 1, 12, 153, 0, 16, 43, 16, 47, 42, 182, 1, 15, 182, 1, 9, 167, 255, 211, 3, 61]
abbrev dktX2_product_2 : List UInt8 := dkwX2_product_2 ++ dktX2_product_3
def dkwX2_product_1 : List UInt8 := [42, 16, 42, 182, 1, 12, 153, 0, 16, 43, 16, 42, 42, 182, 1, 15, 182, 1, 9, 167, 255, 233, 42]
abbrev dktX2_product_1 : List UInt8 := dkwX2_product_1 ++ dktX2_product_2
def dkwX2_product_0 : List UInt8 := [187, 1, 3, 89, 183, 1, 5, 76, 43, 16, 42, 42, 182, 1, 15, 182, 1, 9, 4, 61, 28, 153, 0, 52]
abbrev dktX2_product_0 : List UInt8 := dkwX2_product_0 ++ dktX2_product_1
theorem dksX2_product_0 : cX2_product.data.toList.drop 0 = dktX2_product_0 := by decide +kernel
theorem dksX2_product_1 : cX2_product.data.toList.drop 24 = dktX2_product_1 := dk_seg dksX2_product_0 24 rfl rfl
theorem dksX2_product_2 : cX2_product.data.toList.drop 47 = dktX2_product_2 := dk_seg dksX2_product_1 23 rfl rfl
theorem dksX2_product_3 : cX2_product.data.toList.drop 70 = dktX2_product_3 := dk_seg dksX2_product_2 23 rfl rfl
theorem dX2_product_0 : decode cX2_product 0 = .ok (.new 259, 3) := dk_187 1 3 (dk_at dksX2_product_0 0 rfl rfl)
theorem dX2_product_3 : decode cX2_product 3 = .ok (.dup, 1) := dk_89 (dk_at dksX2_product_0 3 rfl rfl)
theorem dX2_product_4 : decode cX2_product 4 = .ok (.invokespecial 261, 3) := dk_183 1 5 (dk_at dksX2_product_0 4 rfl rfl)
theorem dX2_product_7 : decode cX2_product 7 = .ok (.astore_n 1, 1) := dk_76 (dk_at dksX2_product_0 7 rfl rfl)
theorem dX2_product_8 : decode cX2_product 8 = .ok (.aload_n 1, 1) := dk_43 (dk_at dksX2_product_0 8 rfl rfl)
theorem dX2_product_9 : decode cX2_product 9 = .ok (.bipush 42, 2) := dk_16 42 (dk_at dksX2_product_0 9 rfl rfl)
theorem dX2_product_11 : decode cX2_product 11 = .ok (.aload_n 0, 1) := dk_42 (dk_at dksX2_product_0 11 rfl rfl)
theorem dX2_product_12 : decode cX2_product 12 = .ok (.invokevirtual 271, 3) := dk_182 1 15 (dk_at dksX2_product_0 12 rfl rfl)
theorem dX2_product_15 : decode cX2_product 15 = .ok (.invokevirtual 265, 3) := dk_182 1 9 (dk_at dksX2_product_0 15 rfl rfl)
theorem dX2_product_18 : decode cX2_product 18 = .ok (.iconst 1, 1) := dk_4 (dk_at dksX2_product_0 18 rfl rfl)
theorem dX2_product_19 : decode cX2_product 19 = .ok (.istore_n 2, 1) := dk_61 (dk_at dksX2_product_0 19 rfl rfl)
theorem dX2_product_20 : decode cX2_product 20 = .ok (.iload_n 2, 1) := dk_28 (dk_at dksX2_product_0 20 rfl rfl)
theorem dX2_product_21 : decode cX2_product 21 = .ok (.ifCond .eq 52, 3) := dk_153 0 52 (dk_at dksX2_product_0 21 rfl rfl)
theorem dX2_product_24 : decode cX2_product 24 = .ok (.aload_n 0, 1) := dk_42 (dk_at dksX2_product_1 0 rfl rfl)
theorem dX2_product_25 : decode cX2_product 25 = .ok (.bipush 42, 2) := dk_16 42 (dk_at dksX2_product_1 1 rfl rfl)
theorem dX2_product_27 : decode cX2_product 27 = .ok (.invokevirtual 268, 3) := dk_182 1 12 (dk_at dksX2_product_1 3 rfl rfl)
theorem dX2_product_30 : decode cX2_product 30 = .ok (.ifCond .eq 16, 3) := dk_153 0 16 (dk_at dksX2_product_1 6 rfl rfl)
theorem dX2_product_33 : decode cX2_product 33 = .ok (.aload_n 1, 1) := dk_43 (dk_at dksX2_product_1 9 rfl rfl)
theorem dX2_product_34 : decode cX2_product 34 = .ok (.bipush 42, 2) := dk_16 42 (dk_at dksX2_product_1 10 rfl rfl)
theorem dX2_product_36 : decode cX2_product 36 = .ok (.aload_n 0, 1) := dk_42 (dk_at dksX2_product_1 12 rfl rfl)
theorem dX2_product_37 : decode cX2_product 37 = .ok (.invokevirtual 271, 3) := dk_182 1 15 (dk_at dksX2_product_1 13 rfl rfl)
theorem dX2_product_40 : decode cX2_product 40 = .ok (.invokevirtual 265, 3) := dk_182 1 9 (dk_at dksX2_product_1 16 rfl rfl)
theorem dX2_product_43 : decode cX2_product 43 = .ok (.goto (-23), 3) := dk_167 255 233 (dk_at dksX2_product_1 19 rfl rfl)
theorem dX2_product_46 : decode cX2_product 46 = .ok (.aload_n 0, 1) := dk_42 (dk_at dksX2_product_1 22 rfl rfl)
theorem dX2_product_47 : decode cX2_product 47 = .ok (.bipush 47, 2) := dk_16 47 (dk_at dksX2_product_2 0 rfl rfl)
theorem dX2_product_49 : decode cX2_product 49 = .ok (.invokevirtual 268, 3) := dk_182 1 12 (dk_at dksX2_product_2 2 rfl rfl)
theorem dX2_product_52 : decode cX2_product 52 = .ok (.ifCond .eq 16, 3) := dk_153 0 16 (dk_at dksX2_product_2 5 rfl rfl)
theorem dX2_product_55 : decode cX2_product 55 = .ok (.aload_n 1, 1) := dk_43 (dk_at dksX2_product_2 8 rfl rfl)
theorem dX2_product_56 : decode cX2_product 56 = .ok (.bipush 47, 2) := dk_16 47 (dk_at dksX2_product_2 9 rfl rfl)
theorem dX2_product_58 : decode cX2_product 58 = .ok (.aload_n 0, 1) := dk_42 (dk_at dksX2_product_2 11 rfl rfl)
theorem dX2_product_59 : decode cX2_product 59 = .ok (.invokevirtual 271, 3) := dk_182 1 15 (dk_at dksX2_product_2 12 rfl rfl)
theorem dX2_product_62 : decode cX2_product 62 = .ok (.invokevirtual 265, 3) := dk_182 1 9 (dk_at dksX2_product_2 15 rfl rfl)
theorem dX2_product_65 : decode cX2_product 65 = .ok (.goto (-45), 3) := dk_167 255 211 (dk_at dksX2_product_2 18 rfl rfl)
theorem dX2_product_68 : decode cX2_product 68 = .ok (.iconst 0, 1) := dk_3 (dk_at dksX2_product_2 21 rfl rfl)
theorem dX2_product_69 : decode cX2_product 69 = .ok (.istore_n 2, 1) := dk_61 (dk_at dksX2_product_2 22 rfl rfl)
theorem dX2_product_70 : decode cX2_product 70 = .ok (.goto (-50), 3) := dk_167 255 206 (dk_at dksX2_product_3 0 rfl rfl)
theorem dX2_product_73 : decode cX2_product 73 = .ok (.aload_n 1, 1) := dk_43 (dk_at dksX2_product_3 3 rfl rfl)
theorem dX2_product_74 : decode cX2_product 74 = .ok (.areturn, 1) := dk_176 (dk_at dksX2_product_3 4 rfl rfl)
abbrev cX2_atom : ByteArray := prog_17_method_26_code
def yX2_atom : MethodName := ⟨RX2, "atom", "()LFourOnOne$Value;"⟩
def dkwX2_atom_7 : List UInt8 := [182, 1, 26, 176]
abbrev dktX2_atom_7 : List UInt8 := dkwX2_atom_7 ++ []
def dkwX2_atom_6 : List UInt8 := [180, 0, 61, 182, 0, 47, 191, 42, 43, 19, 1, 48, 182, 0, 74, 153, 0, 7, 4, 167, 0, 4, 5]
abbrev dktX2_atom_6 : List UInt8 := dkwX2_atom_6 ++ dktX2_atom_7
def dkwX2_atom_5 : List UInt8 := [19, 1, 48, 182, 0, 74, 154, 0, 23, 43, 19, 1, 50, 182, 0, 74, 154, 0, 13, 42, 4, 42]
abbrev dktX2_atom_5 : List UInt8 := dkwX2_atom_5 ++ dktX2_atom_6
def dkwX2_atom_4 : List UInt8 := [178, 1, 42, 184, 0, 82, 167, 0, 4, 2, 61, 28, 2, 159, 0, 9, 42, 28, 182, 1, 45, 176, 43]
abbrev dktX2_atom_4 : List UInt8 := dkwX2_atom_4 ++ dktX2_atom_5
def dkwX2_atom_3 : List UInt8 := [153, 0, 12, 187, 1, 38, 89, 28, 183, 1, 40, 176, 42, 180, 0, 214, 17, 0, 249, 160, 0, 13, 43]
abbrev dktX2_atom_3 : List UInt8 := dkwX2_atom_3 ++ dktX2_atom_4
def dkwX2_atom_2 : List UInt8 := [76, 43, 178, 1, 35, 184, 0, 82, 61, 28, 2, 159, 0, 23, 42, 180, 0, 214, 28, 184, 0, 201]
abbrev dktX2_atom_2 : List UInt8 := dkwX2_atom_2 ++ dktX2_atom_3
def dkwX2_atom_1 : List UInt8 := [153, 0, 20, 187, 1, 30, 89, 42, 3, 17, 39, 15, 182, 0, 96, 133, 183, 1, 32, 176, 42, 182, 0, 70]
abbrev dktX2_atom_1 : List UInt8 := dkwX2_atom_1 ++ dktX2_atom_2
def dkwX2_atom_0 : List UInt8 := [42, 182, 0, 43, 16, 40, 160, 0, 9, 42, 3, 182, 1, 26, 176, 42, 182, 0, 43, 184, 0, 55]
abbrev dktX2_atom_0 : List UInt8 := dkwX2_atom_0 ++ dktX2_atom_1
theorem dksX2_atom_0 : cX2_atom.data.toList.drop 0 = dktX2_atom_0 := by decide +kernel
theorem dksX2_atom_1 : cX2_atom.data.toList.drop 22 = dktX2_atom_1 := dk_seg dksX2_atom_0 22 rfl rfl
theorem dksX2_atom_2 : cX2_atom.data.toList.drop 46 = dktX2_atom_2 := dk_seg dksX2_atom_1 24 rfl rfl
theorem dksX2_atom_3 : cX2_atom.data.toList.drop 68 = dktX2_atom_3 := dk_seg dksX2_atom_2 22 rfl rfl
theorem dksX2_atom_4 : cX2_atom.data.toList.drop 91 = dktX2_atom_4 := dk_seg dksX2_atom_3 23 rfl rfl
theorem dksX2_atom_5 : cX2_atom.data.toList.drop 114 = dktX2_atom_5 := dk_seg dksX2_atom_4 23 rfl rfl
theorem dksX2_atom_6 : cX2_atom.data.toList.drop 136 = dktX2_atom_6 := dk_seg dksX2_atom_5 22 rfl rfl
theorem dksX2_atom_7 : cX2_atom.data.toList.drop 159 = dktX2_atom_7 := dk_seg dksX2_atom_6 23 rfl rfl
theorem dX2_atom_0 : decode cX2_atom 0 = .ok (.aload_n 0, 1) := dk_42 (dk_at dksX2_atom_0 0 rfl rfl)
theorem dX2_atom_1 : decode cX2_atom 1 = .ok (.invokevirtual 43, 3) := dk_182 0 43 (dk_at dksX2_atom_0 1 rfl rfl)
theorem dX2_atom_4 : decode cX2_atom 4 = .ok (.bipush 40, 2) := dk_16 40 (dk_at dksX2_atom_0 4 rfl rfl)
theorem dX2_atom_6 : decode cX2_atom 6 = .ok (.if_icmp .ne 9, 3) := dk_160 0 9 (dk_at dksX2_atom_0 6 rfl rfl)
theorem dX2_atom_9 : decode cX2_atom 9 = .ok (.aload_n 0, 1) := dk_42 (dk_at dksX2_atom_0 9 rfl rfl)
theorem dX2_atom_10 : decode cX2_atom 10 = .ok (.iconst 0, 1) := dk_3 (dk_at dksX2_atom_0 10 rfl rfl)
theorem dX2_atom_11 : decode cX2_atom 11 = .ok (.invokevirtual 282, 3) := dk_182 1 26 (dk_at dksX2_atom_0 11 rfl rfl)
theorem dX2_atom_14 : decode cX2_atom 14 = .ok (.areturn, 1) := dk_176 (dk_at dksX2_atom_0 14 rfl rfl)
theorem dX2_atom_15 : decode cX2_atom 15 = .ok (.aload_n 0, 1) := dk_42 (dk_at dksX2_atom_0 15 rfl rfl)
theorem dX2_atom_16 : decode cX2_atom 16 = .ok (.invokevirtual 43, 3) := dk_182 0 43 (dk_at dksX2_atom_0 16 rfl rfl)
theorem dX2_atom_19 : decode cX2_atom 19 = .ok (.invokestatic 55, 3) := dk_184 0 55 (dk_at dksX2_atom_0 19 rfl rfl)
theorem dX2_atom_22 : decode cX2_atom 22 = .ok (.ifCond .eq 20, 3) := dk_153 0 20 (dk_at dksX2_atom_1 0 rfl rfl)
theorem dX2_atom_25 : decode cX2_atom 25 = .ok (.new 286, 3) := dk_187 1 30 (dk_at dksX2_atom_1 3 rfl rfl)
theorem dX2_atom_28 : decode cX2_atom 28 = .ok (.dup, 1) := dk_89 (dk_at dksX2_atom_1 6 rfl rfl)
theorem dX2_atom_29 : decode cX2_atom 29 = .ok (.aload_n 0, 1) := dk_42 (dk_at dksX2_atom_1 7 rfl rfl)
theorem dX2_atom_30 : decode cX2_atom 30 = .ok (.iconst 0, 1) := dk_3 (dk_at dksX2_atom_1 8 rfl rfl)
theorem dX2_atom_31 : decode cX2_atom 31 = .ok (.sipush 9999, 3) := dk_17 39 15 (dk_at dksX2_atom_1 9 rfl rfl)
theorem dX2_atom_34 : decode cX2_atom 34 = .ok (.invokevirtual 96, 3) := dk_182 0 96 (dk_at dksX2_atom_1 12 rfl rfl)
theorem dX2_atom_37 : decode cX2_atom 37 = .ok (.i2l, 1) := dk_133 (dk_at dksX2_atom_1 15 rfl rfl)
theorem dX2_atom_38 : decode cX2_atom 38 = .ok (.invokespecial 288, 3) := dk_183 1 32 (dk_at dksX2_atom_1 16 rfl rfl)
theorem dX2_atom_41 : decode cX2_atom 41 = .ok (.areturn, 1) := dk_176 (dk_at dksX2_atom_1 19 rfl rfl)
theorem dX2_atom_42 : decode cX2_atom 42 = .ok (.aload_n 0, 1) := dk_42 (dk_at dksX2_atom_1 20 rfl rfl)
theorem dX2_atom_43 : decode cX2_atom 43 = .ok (.invokevirtual 70, 3) := dk_182 0 70 (dk_at dksX2_atom_1 21 rfl rfl)
theorem dX2_atom_46 : decode cX2_atom 46 = .ok (.astore_n 1, 1) := dk_76 (dk_at dksX2_atom_2 0 rfl rfl)
theorem dX2_atom_47 : decode cX2_atom 47 = .ok (.aload_n 1, 1) := dk_43 (dk_at dksX2_atom_2 1 rfl rfl)
theorem dX2_atom_48 : decode cX2_atom 48 = .ok (.getstatic 291, 3) := dk_178 1 35 (dk_at dksX2_atom_2 2 rfl rfl)
theorem dX2_atom_51 : decode cX2_atom 51 = .ok (.invokestatic 82, 3) := dk_184 0 82 (dk_at dksX2_atom_2 5 rfl rfl)
theorem dX2_atom_54 : decode cX2_atom 54 = .ok (.istore_n 2, 1) := dk_61 (dk_at dksX2_atom_2 8 rfl rfl)
theorem dX2_atom_55 : decode cX2_atom 55 = .ok (.iload_n 2, 1) := dk_28 (dk_at dksX2_atom_2 9 rfl rfl)
theorem dX2_atom_56 : decode cX2_atom 56 = .ok (.iconst (-1), 1) := dk_2 (dk_at dksX2_atom_2 10 rfl rfl)
theorem dX2_atom_57 : decode cX2_atom 57 = .ok (.if_icmp .eq 23, 3) := dk_159 0 23 (dk_at dksX2_atom_2 11 rfl rfl)
theorem dX2_atom_60 : decode cX2_atom 60 = .ok (.aload_n 0, 1) := dk_42 (dk_at dksX2_atom_2 14 rfl rfl)
theorem dX2_atom_61 : decode cX2_atom 61 = .ok (.getfield 214, 3) := dk_180 0 214 (dk_at dksX2_atom_2 15 rfl rfl)
theorem dX2_atom_64 : decode cX2_atom 64 = .ok (.iload_n 2, 1) := dk_28 (dk_at dksX2_atom_2 18 rfl rfl)
theorem dX2_atom_65 : decode cX2_atom 65 = .ok (.invokestatic 201, 3) := dk_184 0 201 (dk_at dksX2_atom_2 19 rfl rfl)
theorem dX2_atom_68 : decode cX2_atom 68 = .ok (.ifCond .eq 12, 3) := dk_153 0 12 (dk_at dksX2_atom_3 0 rfl rfl)
theorem dX2_atom_71 : decode cX2_atom 71 = .ok (.new 294, 3) := dk_187 1 38 (dk_at dksX2_atom_3 3 rfl rfl)
theorem dX2_atom_74 : decode cX2_atom 74 = .ok (.dup, 1) := dk_89 (dk_at dksX2_atom_3 6 rfl rfl)
theorem dX2_atom_75 : decode cX2_atom 75 = .ok (.iload_n 2, 1) := dk_28 (dk_at dksX2_atom_3 7 rfl rfl)
theorem dX2_atom_76 : decode cX2_atom 76 = .ok (.invokespecial 296, 3) := dk_183 1 40 (dk_at dksX2_atom_3 8 rfl rfl)
theorem dX2_atom_79 : decode cX2_atom 79 = .ok (.areturn, 1) := dk_176 (dk_at dksX2_atom_3 11 rfl rfl)
theorem dX2_atom_80 : decode cX2_atom 80 = .ok (.aload_n 0, 1) := dk_42 (dk_at dksX2_atom_3 12 rfl rfl)
theorem dX2_atom_81 : decode cX2_atom 81 = .ok (.getfield 214, 3) := dk_180 0 214 (dk_at dksX2_atom_3 13 rfl rfl)
theorem dX2_atom_84 : decode cX2_atom 84 = .ok (.sipush 249, 3) := dk_17 0 249 (dk_at dksX2_atom_3 16 rfl rfl)
theorem dX2_atom_87 : decode cX2_atom 87 = .ok (.if_icmp .ne 13, 3) := dk_160 0 13 (dk_at dksX2_atom_3 19 rfl rfl)
theorem dX2_atom_90 : decode cX2_atom 90 = .ok (.aload_n 1, 1) := dk_43 (dk_at dksX2_atom_3 22 rfl rfl)
theorem dX2_atom_91 : decode cX2_atom 91 = .ok (.getstatic 298, 3) := dk_178 1 42 (dk_at dksX2_atom_4 0 rfl rfl)
theorem dX2_atom_94 : decode cX2_atom 94 = .ok (.invokestatic 82, 3) := dk_184 0 82 (dk_at dksX2_atom_4 3 rfl rfl)
theorem dX2_atom_97 : decode cX2_atom 97 = .ok (.goto 4, 3) := dk_167 0 4 (dk_at dksX2_atom_4 6 rfl rfl)
theorem dX2_atom_100 : decode cX2_atom 100 = .ok (.iconst (-1), 1) := dk_2 (dk_at dksX2_atom_4 9 rfl rfl)
theorem dX2_atom_101 : decode cX2_atom 101 = .ok (.istore_n 2, 1) := dk_61 (dk_at dksX2_atom_4 10 rfl rfl)
theorem dX2_atom_102 : decode cX2_atom 102 = .ok (.iload_n 2, 1) := dk_28 (dk_at dksX2_atom_4 11 rfl rfl)
theorem dX2_atom_103 : decode cX2_atom 103 = .ok (.iconst (-1), 1) := dk_2 (dk_at dksX2_atom_4 12 rfl rfl)
theorem dX2_atom_104 : decode cX2_atom 104 = .ok (.if_icmp .eq 9, 3) := dk_159 0 9 (dk_at dksX2_atom_4 13 rfl rfl)
theorem dX2_atom_107 : decode cX2_atom 107 = .ok (.aload_n 0, 1) := dk_42 (dk_at dksX2_atom_4 16 rfl rfl)
theorem dX2_atom_108 : decode cX2_atom 108 = .ok (.iload_n 2, 1) := dk_28 (dk_at dksX2_atom_4 17 rfl rfl)
theorem dX2_atom_109 : decode cX2_atom 109 = .ok (.invokevirtual 301, 3) := dk_182 1 45 (dk_at dksX2_atom_4 18 rfl rfl)
theorem dX2_atom_112 : decode cX2_atom 112 = .ok (.areturn, 1) := dk_176 (dk_at dksX2_atom_4 21 rfl rfl)
theorem dX2_atom_113 : decode cX2_atom 113 = .ok (.aload_n 1, 1) := dk_43 (dk_at dksX2_atom_4 22 rfl rfl)
theorem dX2_atom_114 : decode cX2_atom 114 = .ok (.ldc_w 304, 3) := dk_19 1 48 (dk_at dksX2_atom_5 0 rfl rfl)
theorem dX2_atom_117 : decode cX2_atom 117 = .ok (.invokevirtual 74, 3) := dk_182 0 74 (dk_at dksX2_atom_5 3 rfl rfl)
theorem dX2_atom_120 : decode cX2_atom 120 = .ok (.ifCond .ne 23, 3) := dk_154 0 23 (dk_at dksX2_atom_5 6 rfl rfl)
theorem dX2_atom_123 : decode cX2_atom 123 = .ok (.aload_n 1, 1) := dk_43 (dk_at dksX2_atom_5 9 rfl rfl)
theorem dX2_atom_124 : decode cX2_atom 124 = .ok (.ldc_w 306, 3) := dk_19 1 50 (dk_at dksX2_atom_5 10 rfl rfl)
theorem dX2_atom_127 : decode cX2_atom 127 = .ok (.invokevirtual 74, 3) := dk_182 0 74 (dk_at dksX2_atom_5 13 rfl rfl)
theorem dX2_atom_130 : decode cX2_atom 130 = .ok (.ifCond .ne 13, 3) := dk_154 0 13 (dk_at dksX2_atom_5 16 rfl rfl)
theorem dX2_atom_133 : decode cX2_atom 133 = .ok (.aload_n 0, 1) := dk_42 (dk_at dksX2_atom_5 19 rfl rfl)
theorem dX2_atom_134 : decode cX2_atom 134 = .ok (.iconst 1, 1) := dk_4 (dk_at dksX2_atom_5 20 rfl rfl)
theorem dX2_atom_135 : decode cX2_atom 135 = .ok (.aload_n 0, 1) := dk_42 (dk_at dksX2_atom_5 21 rfl rfl)
theorem dX2_atom_136 : decode cX2_atom 136 = .ok (.getfield 61, 3) := dk_180 0 61 (dk_at dksX2_atom_6 0 rfl rfl)
theorem dX2_atom_139 : decode cX2_atom 139 = .ok (.invokevirtual 47, 3) := dk_182 0 47 (dk_at dksX2_atom_6 3 rfl rfl)
theorem dX2_atom_142 : decode cX2_atom 142 = .ok (.athrow, 1) := dk_191 (dk_at dksX2_atom_6 6 rfl rfl)
theorem dX2_atom_143 : decode cX2_atom 143 = .ok (.aload_n 0, 1) := dk_42 (dk_at dksX2_atom_6 7 rfl rfl)
theorem dX2_atom_144 : decode cX2_atom 144 = .ok (.aload_n 1, 1) := dk_43 (dk_at dksX2_atom_6 8 rfl rfl)
theorem dX2_atom_145 : decode cX2_atom 145 = .ok (.ldc_w 304, 3) := dk_19 1 48 (dk_at dksX2_atom_6 9 rfl rfl)
theorem dX2_atom_148 : decode cX2_atom 148 = .ok (.invokevirtual 74, 3) := dk_182 0 74 (dk_at dksX2_atom_6 12 rfl rfl)
theorem dX2_atom_151 : decode cX2_atom 151 = .ok (.ifCond .eq 7, 3) := dk_153 0 7 (dk_at dksX2_atom_6 15 rfl rfl)
theorem dX2_atom_154 : decode cX2_atom 154 = .ok (.iconst 1, 1) := dk_4 (dk_at dksX2_atom_6 18 rfl rfl)
theorem dX2_atom_155 : decode cX2_atom 155 = .ok (.goto 4, 3) := dk_167 0 4 (dk_at dksX2_atom_6 19 rfl rfl)
theorem dX2_atom_158 : decode cX2_atom 158 = .ok (.iconst 2, 1) := dk_5 (dk_at dksX2_atom_6 22 rfl rfl)
theorem dX2_atom_159 : decode cX2_atom 159 = .ok (.invokevirtual 282, 3) := dk_182 1 26 (dk_at dksX2_atom_7 0 rfl rfl)
theorem dX2_atom_162 : decode cX2_atom 162 = .ok (.areturn, 1) := dk_176 (dk_at dksX2_atom_7 3 rfl rfl)
abbrev cX2_within : ByteArray := prog_17_method_25_code
def yX2_within : MethodName := ⟨RX2, "within", "(I)LFourOnOne$Value;"⟩
def dkwX2_within_4 : List UInt8 := [176]
abbrev dktX2_within_4 : List UInt8 := dkwX2_within_4 ++ []
def dkwX2_within_3 : List UInt8 := [182, 0, 217, 183, 1, 23, 78, 42, 16, 41, 182, 0, 137, 42, 89, 180, 0, 119, 4, 100, 181, 0, 119, 45]
abbrev dktX2_within_3 : List UInt8 := dkwX2_within_3 ++ dktX2_within_4
def dkwX2_within_2 : List UInt8 := [42, 16, 44, 182, 0, 137, 187, 1, 21, 89, 27, 5, 160, 0, 7, 4, 167, 0, 4, 3, 44, 42]
abbrev dktX2_within_2 : List UInt8 := dkwX2_within_2 ++ dktX2_within_3
def dkwX2_within_1 : List UInt8 := [182, 1, 18, 42, 89, 180, 0, 36, 4, 96, 181, 0, 36, 42, 182, 0, 217, 77, 44, 78, 27, 158, 0, 32]
abbrev dktX2_within_1 : List UInt8 := dkwX2_within_1 ++ dktX2_within_2
def dkwX2_within_0 : List UInt8 := [42, 182, 0, 43, 16, 40, 159, 0, 13, 42, 4, 42, 180, 0, 36, 182, 0, 47, 191, 42, 42, 180, 0, 36]
abbrev dktX2_within_0 : List UInt8 := dkwX2_within_0 ++ dktX2_within_1
theorem dksX2_within_0 : cX2_within.data.toList.drop 0 = dktX2_within_0 := by decide +kernel
theorem dksX2_within_1 : cX2_within.data.toList.drop 24 = dktX2_within_1 := dk_seg dksX2_within_0 24 rfl rfl
theorem dksX2_within_2 : cX2_within.data.toList.drop 48 = dktX2_within_2 := dk_seg dksX2_within_1 24 rfl rfl
theorem dksX2_within_3 : cX2_within.data.toList.drop 70 = dktX2_within_3 := dk_seg dksX2_within_2 22 rfl rfl
theorem dksX2_within_4 : cX2_within.data.toList.drop 94 = dktX2_within_4 := dk_seg dksX2_within_3 24 rfl rfl
theorem dX2_within_0 : decode cX2_within 0 = .ok (.aload_n 0, 1) := dk_42 (dk_at dksX2_within_0 0 rfl rfl)
theorem dX2_within_1 : decode cX2_within 1 = .ok (.invokevirtual 43, 3) := dk_182 0 43 (dk_at dksX2_within_0 1 rfl rfl)
theorem dX2_within_4 : decode cX2_within 4 = .ok (.bipush 40, 2) := dk_16 40 (dk_at dksX2_within_0 4 rfl rfl)
theorem dX2_within_6 : decode cX2_within 6 = .ok (.if_icmp .eq 13, 3) := dk_159 0 13 (dk_at dksX2_within_0 6 rfl rfl)
theorem dX2_within_9 : decode cX2_within 9 = .ok (.aload_n 0, 1) := dk_42 (dk_at dksX2_within_0 9 rfl rfl)
theorem dX2_within_10 : decode cX2_within 10 = .ok (.iconst 1, 1) := dk_4 (dk_at dksX2_within_0 10 rfl rfl)
theorem dX2_within_11 : decode cX2_within 11 = .ok (.aload_n 0, 1) := dk_42 (dk_at dksX2_within_0 11 rfl rfl)
theorem dX2_within_12 : decode cX2_within 12 = .ok (.getfield 36, 3) := dk_180 0 36 (dk_at dksX2_within_0 12 rfl rfl)
theorem dX2_within_15 : decode cX2_within 15 = .ok (.invokevirtual 47, 3) := dk_182 0 47 (dk_at dksX2_within_0 15 rfl rfl)
theorem dX2_within_18 : decode cX2_within 18 = .ok (.athrow, 1) := dk_191 (dk_at dksX2_within_0 18 rfl rfl)
theorem dX2_within_19 : decode cX2_within 19 = .ok (.aload_n 0, 1) := dk_42 (dk_at dksX2_within_0 19 rfl rfl)
theorem dX2_within_20 : decode cX2_within 20 = .ok (.aload_n 0, 1) := dk_42 (dk_at dksX2_within_0 20 rfl rfl)
theorem dX2_within_21 : decode cX2_within 21 = .ok (.getfield 36, 3) := dk_180 0 36 (dk_at dksX2_within_0 21 rfl rfl)
theorem dX2_within_24 : decode cX2_within 24 = .ok (.invokevirtual 274, 3) := dk_182 1 18 (dk_at dksX2_within_1 0 rfl rfl)
theorem dX2_within_27 : decode cX2_within 27 = .ok (.aload_n 0, 1) := dk_42 (dk_at dksX2_within_1 3 rfl rfl)
theorem dX2_within_28 : decode cX2_within 28 = .ok (.dup, 1) := dk_89 (dk_at dksX2_within_1 4 rfl rfl)
theorem dX2_within_29 : decode cX2_within 29 = .ok (.getfield 36, 3) := dk_180 0 36 (dk_at dksX2_within_1 5 rfl rfl)
theorem dX2_within_32 : decode cX2_within 32 = .ok (.iconst 1, 1) := dk_4 (dk_at dksX2_within_1 8 rfl rfl)
theorem dX2_within_33 : decode cX2_within 33 = .ok (.iadd, 1) := dk_96 (dk_at dksX2_within_1 9 rfl rfl)
theorem dX2_within_34 : decode cX2_within 34 = .ok (.putfield 36, 3) := dk_181 0 36 (dk_at dksX2_within_1 10 rfl rfl)
theorem dX2_within_37 : decode cX2_within 37 = .ok (.aload_n 0, 1) := dk_42 (dk_at dksX2_within_1 13 rfl rfl)
theorem dX2_within_38 : decode cX2_within 38 = .ok (.invokevirtual 217, 3) := dk_182 0 217 (dk_at dksX2_within_1 14 rfl rfl)
theorem dX2_within_41 : decode cX2_within 41 = .ok (.astore_n 2, 1) := dk_77 (dk_at dksX2_within_1 17 rfl rfl)
theorem dX2_within_42 : decode cX2_within 42 = .ok (.aload_n 2, 1) := dk_44 (dk_at dksX2_within_1 18 rfl rfl)
theorem dX2_within_43 : decode cX2_within 43 = .ok (.astore_n 3, 1) := dk_78 (dk_at dksX2_within_1 19 rfl rfl)
theorem dX2_within_44 : decode cX2_within 44 = .ok (.iload_n 1, 1) := dk_27 (dk_at dksX2_within_1 20 rfl rfl)
theorem dX2_within_45 : decode cX2_within 45 = .ok (.ifCond .le 32, 3) := dk_158 0 32 (dk_at dksX2_within_1 21 rfl rfl)
theorem dX2_within_48 : decode cX2_within 48 = .ok (.aload_n 0, 1) := dk_42 (dk_at dksX2_within_2 0 rfl rfl)
theorem dX2_within_49 : decode cX2_within 49 = .ok (.bipush 44, 2) := dk_16 44 (dk_at dksX2_within_2 1 rfl rfl)
theorem dX2_within_51 : decode cX2_within 51 = .ok (.invokevirtual 137, 3) := dk_182 0 137 (dk_at dksX2_within_2 3 rfl rfl)
theorem dX2_within_54 : decode cX2_within 54 = .ok (.new 277, 3) := dk_187 1 21 (dk_at dksX2_within_2 6 rfl rfl)
theorem dX2_within_57 : decode cX2_within 57 = .ok (.dup, 1) := dk_89 (dk_at dksX2_within_2 9 rfl rfl)
theorem dX2_within_58 : decode cX2_within 58 = .ok (.iload_n 1, 1) := dk_27 (dk_at dksX2_within_2 10 rfl rfl)
theorem dX2_within_59 : decode cX2_within 59 = .ok (.iconst 2, 1) := dk_5 (dk_at dksX2_within_2 11 rfl rfl)
theorem dX2_within_60 : decode cX2_within 60 = .ok (.if_icmp .ne 7, 3) := dk_160 0 7 (dk_at dksX2_within_2 12 rfl rfl)
theorem dX2_within_63 : decode cX2_within 63 = .ok (.iconst 1, 1) := dk_4 (dk_at dksX2_within_2 15 rfl rfl)
theorem dX2_within_64 : decode cX2_within 64 = .ok (.goto 4, 3) := dk_167 0 4 (dk_at dksX2_within_2 16 rfl rfl)
theorem dX2_within_67 : decode cX2_within 67 = .ok (.iconst 0, 1) := dk_3 (dk_at dksX2_within_2 19 rfl rfl)
theorem dX2_within_68 : decode cX2_within 68 = .ok (.aload_n 2, 1) := dk_44 (dk_at dksX2_within_2 20 rfl rfl)
theorem dX2_within_69 : decode cX2_within 69 = .ok (.aload_n 0, 1) := dk_42 (dk_at dksX2_within_2 21 rfl rfl)
theorem dX2_within_70 : decode cX2_within 70 = .ok (.invokevirtual 217, 3) := dk_182 0 217 (dk_at dksX2_within_3 0 rfl rfl)
theorem dX2_within_73 : decode cX2_within 73 = .ok (.invokespecial 279, 3) := dk_183 1 23 (dk_at dksX2_within_3 3 rfl rfl)
theorem dX2_within_76 : decode cX2_within 76 = .ok (.astore_n 3, 1) := dk_78 (dk_at dksX2_within_3 6 rfl rfl)
theorem dX2_within_77 : decode cX2_within 77 = .ok (.aload_n 0, 1) := dk_42 (dk_at dksX2_within_3 7 rfl rfl)
theorem dX2_within_78 : decode cX2_within 78 = .ok (.bipush 41, 2) := dk_16 41 (dk_at dksX2_within_3 8 rfl rfl)
theorem dX2_within_80 : decode cX2_within 80 = .ok (.invokevirtual 137, 3) := dk_182 0 137 (dk_at dksX2_within_3 10 rfl rfl)
theorem dX2_within_83 : decode cX2_within 83 = .ok (.aload_n 0, 1) := dk_42 (dk_at dksX2_within_3 13 rfl rfl)
theorem dX2_within_84 : decode cX2_within 84 = .ok (.dup, 1) := dk_89 (dk_at dksX2_within_3 14 rfl rfl)
theorem dX2_within_85 : decode cX2_within 85 = .ok (.getfield 119, 3) := dk_180 0 119 (dk_at dksX2_within_3 15 rfl rfl)
theorem dX2_within_88 : decode cX2_within 88 = .ok (.iconst 1, 1) := dk_4 (dk_at dksX2_within_3 18 rfl rfl)
theorem dX2_within_89 : decode cX2_within 89 = .ok (.isub, 1) := dk_100 (dk_at dksX2_within_3 19 rfl rfl)
theorem dX2_within_90 : decode cX2_within 90 = .ok (.putfield 119, 3) := dk_181 0 119 (dk_at dksX2_within_3 20 rfl rfl)
theorem dX2_within_93 : decode cX2_within 93 = .ok (.aload_n 3, 1) := dk_45 (dk_at dksX2_within_3 23 rfl rfl)
theorem dX2_within_94 : decode cX2_within 94 = .ok (.areturn, 1) := dk_176 (dk_at dksX2_within_4 0 rfl rfl)
abbrev cX2_opens : ByteArray := prog_17_method_24_code
def yX2_opens : MethodName := ⟨RX2, "opens", "(I)V"⟩
def dkwX2_opens_1 : List UInt8 := [181, 0, 119, 177]
abbrev dktX2_opens_1 : List UInt8 := dkwX2_opens_1 ++ []
def dkwX2_opens_0 : List UInt8 := [42, 180, 0, 119, 16, 6, 160, 0, 10, 42, 7, 27, 182, 0, 47, 191, 42, 89, 180, 0, 119, 4, 96]
abbrev dktX2_opens_0 : List UInt8 := dkwX2_opens_0 ++ dktX2_opens_1
theorem dksX2_opens_0 : cX2_opens.data.toList.drop 0 = dktX2_opens_0 := by decide +kernel
theorem dksX2_opens_1 : cX2_opens.data.toList.drop 23 = dktX2_opens_1 := dk_seg dksX2_opens_0 23 rfl rfl
theorem dX2_opens_0 : decode cX2_opens 0 = .ok (.aload_n 0, 1) := dk_42 (dk_at dksX2_opens_0 0 rfl rfl)
theorem dX2_opens_1 : decode cX2_opens 1 = .ok (.getfield 119, 3) := dk_180 0 119 (dk_at dksX2_opens_0 1 rfl rfl)
theorem dX2_opens_4 : decode cX2_opens 4 = .ok (.bipush 6, 2) := dk_16 6 (dk_at dksX2_opens_0 4 rfl rfl)
theorem dX2_opens_6 : decode cX2_opens 6 = .ok (.if_icmp .ne 10, 3) := dk_160 0 10 (dk_at dksX2_opens_0 6 rfl rfl)
theorem dX2_opens_9 : decode cX2_opens 9 = .ok (.aload_n 0, 1) := dk_42 (dk_at dksX2_opens_0 9 rfl rfl)
theorem dX2_opens_10 : decode cX2_opens 10 = .ok (.iconst 4, 1) := dk_7 (dk_at dksX2_opens_0 10 rfl rfl)
theorem dX2_opens_11 : decode cX2_opens 11 = .ok (.iload_n 1, 1) := dk_27 (dk_at dksX2_opens_0 11 rfl rfl)
theorem dX2_opens_12 : decode cX2_opens 12 = .ok (.invokevirtual 47, 3) := dk_182 0 47 (dk_at dksX2_opens_0 12 rfl rfl)
theorem dX2_opens_15 : decode cX2_opens 15 = .ok (.athrow, 1) := dk_191 (dk_at dksX2_opens_0 15 rfl rfl)
theorem dX2_opens_16 : decode cX2_opens 16 = .ok (.aload_n 0, 1) := dk_42 (dk_at dksX2_opens_0 16 rfl rfl)
theorem dX2_opens_17 : decode cX2_opens 17 = .ok (.dup, 1) := dk_89 (dk_at dksX2_opens_0 17 rfl rfl)
theorem dX2_opens_18 : decode cX2_opens 18 = .ok (.getfield 119, 3) := dk_180 0 119 (dk_at dksX2_opens_0 18 rfl rfl)
theorem dX2_opens_21 : decode cX2_opens 21 = .ok (.iconst 1, 1) := dk_4 (dk_at dksX2_opens_0 21 rfl rfl)
theorem dX2_opens_22 : decode cX2_opens 22 = .ok (.iadd, 1) := dk_96 (dk_at dksX2_opens_0 22 rfl rfl)
theorem dX2_opens_23 : decode cX2_opens 23 = .ok (.putfield 119, 3) := dk_181 0 119 (dk_at dksX2_opens_1 0 rfl rfl)
theorem dX2_opens_26 : decode cX2_opens 26 = .ok (.return_, 1) := dk_177 (dk_at dksX2_opens_1 3 rfl rfl)
abbrev cX2_must : ByteArray := prog_17_method_5_code
def yX2_must : MethodName := ⟨RX2, "must", "(I)V"⟩
def dkwX2_must_1 : List UInt8 := [96, 181, 0, 36, 177]
abbrev dktX2_must_1 : List UInt8 := dkwX2_must_1 ++ []
def dkwX2_must_0 : List UInt8 := [42, 182, 0, 43, 27, 159, 0, 13, 42, 4, 42, 180, 0, 36, 182, 0, 47, 191, 42, 89, 180, 0, 36, 4]
abbrev dktX2_must_0 : List UInt8 := dkwX2_must_0 ++ dktX2_must_1
theorem dksX2_must_0 : cX2_must.data.toList.drop 0 = dktX2_must_0 := by decide +kernel
theorem dksX2_must_1 : cX2_must.data.toList.drop 24 = dktX2_must_1 := dk_seg dksX2_must_0 24 rfl rfl
theorem dX2_must_0 : decode cX2_must 0 = .ok (.aload_n 0, 1) := dk_42 (dk_at dksX2_must_0 0 rfl rfl)
theorem dX2_must_1 : decode cX2_must 1 = .ok (.invokevirtual 43, 3) := dk_182 0 43 (dk_at dksX2_must_0 1 rfl rfl)
theorem dX2_must_4 : decode cX2_must 4 = .ok (.iload_n 1, 1) := dk_27 (dk_at dksX2_must_0 4 rfl rfl)
theorem dX2_must_5 : decode cX2_must 5 = .ok (.if_icmp .eq 13, 3) := dk_159 0 13 (dk_at dksX2_must_0 5 rfl rfl)
theorem dX2_must_8 : decode cX2_must 8 = .ok (.aload_n 0, 1) := dk_42 (dk_at dksX2_must_0 8 rfl rfl)
theorem dX2_must_9 : decode cX2_must 9 = .ok (.iconst 1, 1) := dk_4 (dk_at dksX2_must_0 9 rfl rfl)
theorem dX2_must_10 : decode cX2_must 10 = .ok (.aload_n 0, 1) := dk_42 (dk_at dksX2_must_0 10 rfl rfl)
theorem dX2_must_11 : decode cX2_must 11 = .ok (.getfield 36, 3) := dk_180 0 36 (dk_at dksX2_must_0 11 rfl rfl)
theorem dX2_must_14 : decode cX2_must 14 = .ok (.invokevirtual 47, 3) := dk_182 0 47 (dk_at dksX2_must_0 14 rfl rfl)
theorem dX2_must_17 : decode cX2_must 17 = .ok (.athrow, 1) := dk_191 (dk_at dksX2_must_0 17 rfl rfl)
theorem dX2_must_18 : decode cX2_must 18 = .ok (.aload_n 0, 1) := dk_42 (dk_at dksX2_must_0 18 rfl rfl)
theorem dX2_must_19 : decode cX2_must 19 = .ok (.dup, 1) := dk_89 (dk_at dksX2_must_0 19 rfl rfl)
theorem dX2_must_20 : decode cX2_must 20 = .ok (.getfield 36, 3) := dk_180 0 36 (dk_at dksX2_must_0 20 rfl rfl)
theorem dX2_must_23 : decode cX2_must 23 = .ok (.iconst 1, 1) := dk_4 (dk_at dksX2_must_0 23 rfl rfl)
theorem dX2_must_24 : decode cX2_must 24 = .ok (.iadd, 1) := dk_96 (dk_at dksX2_must_1 0 rfl rfl)
theorem dX2_must_25 : decode cX2_must 25 = .ok (.putfield 36, 3) := dk_181 0 36 (dk_at dksX2_must_1 1 rfl rfl)
theorem dX2_must_28 : decode cX2_must 28 = .ok (.return_, 1) := dk_177 (dk_at dksX2_must_1 4 rfl rfl)
abbrev cX2_looked : ByteArray := prog_17_method_30_code
def yX2_looked : MethodName := ⟨RX2, "looked", "(I)LFourOnOne$Value;"⟩
def dkwX2_looked_1 : List UInt8 := [77, 42, 89, 180, 0, 119, 4, 100, 181, 0, 119, 44, 176]
abbrev dktX2_looked_1 : List UInt8 := dkwX2_looked_1 ++ []
def dkwX2_looked_0 : List UInt8 := [42, 42, 180, 0, 61, 182, 1, 18, 187, 1, 90, 89, 42, 180, 0, 3, 27, 42, 182, 1, 15, 183, 1, 92]
abbrev dktX2_looked_0 : List UInt8 := dkwX2_looked_0 ++ dktX2_looked_1
theorem dksX2_looked_0 : cX2_looked.data.toList.drop 0 = dktX2_looked_0 := by decide +kernel
theorem dksX2_looked_1 : cX2_looked.data.toList.drop 24 = dktX2_looked_1 := dk_seg dksX2_looked_0 24 rfl rfl
theorem dX2_looked_0 : decode cX2_looked 0 = .ok (.aload_n 0, 1) := dk_42 (dk_at dksX2_looked_0 0 rfl rfl)
theorem dX2_looked_1 : decode cX2_looked 1 = .ok (.aload_n 0, 1) := dk_42 (dk_at dksX2_looked_0 1 rfl rfl)
theorem dX2_looked_2 : decode cX2_looked 2 = .ok (.getfield 61, 3) := dk_180 0 61 (dk_at dksX2_looked_0 2 rfl rfl)
theorem dX2_looked_5 : decode cX2_looked 5 = .ok (.invokevirtual 274, 3) := dk_182 1 18 (dk_at dksX2_looked_0 5 rfl rfl)
theorem dX2_looked_8 : decode cX2_looked 8 = .ok (.new 346, 3) := dk_187 1 90 (dk_at dksX2_looked_0 8 rfl rfl)
theorem dX2_looked_11 : decode cX2_looked 11 = .ok (.dup, 1) := dk_89 (dk_at dksX2_looked_0 11 rfl rfl)
theorem dX2_looked_12 : decode cX2_looked 12 = .ok (.aload_n 0, 1) := dk_42 (dk_at dksX2_looked_0 12 rfl rfl)
theorem dX2_looked_13 : decode cX2_looked 13 = .ok (.getfield 3, 3) := dk_180 0 3 (dk_at dksX2_looked_0 13 rfl rfl)
theorem dX2_looked_16 : decode cX2_looked 16 = .ok (.iload_n 1, 1) := dk_27 (dk_at dksX2_looked_0 16 rfl rfl)
theorem dX2_looked_17 : decode cX2_looked 17 = .ok (.aload_n 0, 1) := dk_42 (dk_at dksX2_looked_0 17 rfl rfl)
theorem dX2_looked_18 : decode cX2_looked 18 = .ok (.invokevirtual 271, 3) := dk_182 1 15 (dk_at dksX2_looked_0 18 rfl rfl)
theorem dX2_looked_21 : decode cX2_looked 21 = .ok (.invokespecial 348, 3) := dk_183 1 92 (dk_at dksX2_looked_0 21 rfl rfl)
theorem dX2_looked_24 : decode cX2_looked 24 = .ok (.astore_n 2, 1) := dk_77 (dk_at dksX2_looked_1 0 rfl rfl)
theorem dX2_looked_25 : decode cX2_looked 25 = .ok (.aload_n 0, 1) := dk_42 (dk_at dksX2_looked_1 1 rfl rfl)
theorem dX2_looked_26 : decode cX2_looked 26 = .ok (.dup, 1) := dk_89 (dk_at dksX2_looked_1 2 rfl rfl)
theorem dX2_looked_27 : decode cX2_looked 27 = .ok (.getfield 119, 3) := dk_180 0 119 (dk_at dksX2_looked_1 3 rfl rfl)
theorem dX2_looked_30 : decode cX2_looked 30 = .ok (.iconst 1, 1) := dk_4 (dk_at dksX2_looked_1 6 rfl rfl)
theorem dX2_looked_31 : decode cX2_looked 31 = .ok (.isub, 1) := dk_100 (dk_at dksX2_looked_1 7 rfl rfl)
theorem dX2_looked_32 : decode cX2_looked 32 = .ok (.putfield 119, 3) := dk_181 0 119 (dk_at dksX2_looked_1 8 rfl rfl)
theorem dX2_looked_35 : decode cX2_looked 35 = .ok (.aload_n 2, 1) := dk_44 (dk_at dksX2_looked_1 11 rfl rfl)
theorem dX2_looked_36 : decode cX2_looked 36 = .ok (.areturn, 1) := dk_176 (dk_at dksX2_looked_1 12 rfl rfl)
abbrev cX2_takes : ByteArray := prog_17_method_21_code
def yX2_takes : MethodName := ⟨RX2, "takes", "(I)Z"⟩
def dkwX2_takes_1 : List UInt8 := [167, 0, 4, 3, 96, 181, 0, 36, 28, 172]
abbrev dktX2_takes_1 : List UInt8 := dkwX2_takes_1 ++ []
def dkwX2_takes_0 : List UInt8 := [42, 182, 0, 43, 27, 160, 0, 7, 4, 167, 0, 4, 3, 61, 42, 89, 180, 0, 36, 28, 153, 0, 7, 4]
abbrev dktX2_takes_0 : List UInt8 := dkwX2_takes_0 ++ dktX2_takes_1
theorem dksX2_takes_0 : cX2_takes.data.toList.drop 0 = dktX2_takes_0 := by decide +kernel
theorem dksX2_takes_1 : cX2_takes.data.toList.drop 24 = dktX2_takes_1 := dk_seg dksX2_takes_0 24 rfl rfl
theorem dX2_takes_0 : decode cX2_takes 0 = .ok (.aload_n 0, 1) := dk_42 (dk_at dksX2_takes_0 0 rfl rfl)
theorem dX2_takes_1 : decode cX2_takes 1 = .ok (.invokevirtual 43, 3) := dk_182 0 43 (dk_at dksX2_takes_0 1 rfl rfl)
theorem dX2_takes_4 : decode cX2_takes 4 = .ok (.iload_n 1, 1) := dk_27 (dk_at dksX2_takes_0 4 rfl rfl)
theorem dX2_takes_5 : decode cX2_takes 5 = .ok (.if_icmp .ne 7, 3) := dk_160 0 7 (dk_at dksX2_takes_0 5 rfl rfl)
theorem dX2_takes_8 : decode cX2_takes 8 = .ok (.iconst 1, 1) := dk_4 (dk_at dksX2_takes_0 8 rfl rfl)
theorem dX2_takes_9 : decode cX2_takes 9 = .ok (.goto 4, 3) := dk_167 0 4 (dk_at dksX2_takes_0 9 rfl rfl)
theorem dX2_takes_12 : decode cX2_takes 12 = .ok (.iconst 0, 1) := dk_3 (dk_at dksX2_takes_0 12 rfl rfl)
theorem dX2_takes_13 : decode cX2_takes 13 = .ok (.istore_n 2, 1) := dk_61 (dk_at dksX2_takes_0 13 rfl rfl)
theorem dX2_takes_14 : decode cX2_takes 14 = .ok (.aload_n 0, 1) := dk_42 (dk_at dksX2_takes_0 14 rfl rfl)
theorem dX2_takes_15 : decode cX2_takes 15 = .ok (.dup, 1) := dk_89 (dk_at dksX2_takes_0 15 rfl rfl)
theorem dX2_takes_16 : decode cX2_takes 16 = .ok (.getfield 36, 3) := dk_180 0 36 (dk_at dksX2_takes_0 16 rfl rfl)
theorem dX2_takes_19 : decode cX2_takes 19 = .ok (.iload_n 2, 1) := dk_28 (dk_at dksX2_takes_0 19 rfl rfl)
theorem dX2_takes_20 : decode cX2_takes 20 = .ok (.ifCond .eq 7, 3) := dk_153 0 7 (dk_at dksX2_takes_0 20 rfl rfl)
theorem dX2_takes_23 : decode cX2_takes 23 = .ok (.iconst 1, 1) := dk_4 (dk_at dksX2_takes_0 23 rfl rfl)
theorem dX2_takes_24 : decode cX2_takes 24 = .ok (.goto 4, 3) := dk_167 0 4 (dk_at dksX2_takes_1 0 rfl rfl)
theorem dX2_takes_27 : decode cX2_takes 27 = .ok (.iconst 0, 1) := dk_3 (dk_at dksX2_takes_1 3 rfl rfl)
theorem dX2_takes_28 : decode cX2_takes 28 = .ok (.iadd, 1) := dk_96 (dk_at dksX2_takes_1 4 rfl rfl)
theorem dX2_takes_29 : decode cX2_takes 29 = .ok (.putfield 36, 3) := dk_181 0 36 (dk_at dksX2_takes_1 5 rfl rfl)
theorem dX2_takes_32 : decode cX2_takes 32 = .ok (.iload_n 2, 1) := dk_28 (dk_at dksX2_takes_1 8 rfl rfl)
theorem dX2_takes_33 : decode cX2_takes 33 = .ok (.ireturn, 1) := dk_172 (dk_at dksX2_takes_1 9 rfl rfl)
abbrev cX2_test : ByteArray := prog_17_method_27_code
def yX2_test : MethodName := ⟨RX2, "test", "()LFourOnOne$Test;"⟩
def dkwX2_test_2 : List UInt8 := [167, 255, 232, 43, 176]
abbrev dktX2_test_2 : List UInt8 := dkwX2_test_2 ++ []
def dkwX2_test_1 : List UInt8 := [19, 1, 63, 182, 1, 65, 153, 0, 20, 43, 180, 1, 57, 42, 182, 1, 60, 185, 0, 166, 2, 0, 87]
abbrev dktX2_test_1 : List UInt8 := dkwX2_test_1 ++ dktX2_test_2
def dkwX2_test_0 : List UInt8 := [187, 1, 52, 89, 3, 183, 1, 54, 76, 43, 180, 1, 57, 42, 182, 1, 60, 185, 0, 166, 2, 0, 87, 42]
abbrev dktX2_test_0 : List UInt8 := dkwX2_test_0 ++ dktX2_test_1
theorem dksX2_test_0 : cX2_test.data.toList.drop 0 = dktX2_test_0 := by decide +kernel
theorem dksX2_test_1 : cX2_test.data.toList.drop 24 = dktX2_test_1 := dk_seg dksX2_test_0 24 rfl rfl
theorem dksX2_test_2 : cX2_test.data.toList.drop 47 = dktX2_test_2 := dk_seg dksX2_test_1 23 rfl rfl
theorem dX2_test_0 : decode cX2_test 0 = .ok (.new 308, 3) := dk_187 1 52 (dk_at dksX2_test_0 0 rfl rfl)
theorem dX2_test_3 : decode cX2_test 3 = .ok (.dup, 1) := dk_89 (dk_at dksX2_test_0 3 rfl rfl)
theorem dX2_test_4 : decode cX2_test 4 = .ok (.iconst 0, 1) := dk_3 (dk_at dksX2_test_0 4 rfl rfl)
theorem dX2_test_5 : decode cX2_test 5 = .ok (.invokespecial 310, 3) := dk_183 1 54 (dk_at dksX2_test_0 5 rfl rfl)
theorem dX2_test_8 : decode cX2_test 8 = .ok (.astore_n 1, 1) := dk_76 (dk_at dksX2_test_0 8 rfl rfl)
theorem dX2_test_9 : decode cX2_test 9 = .ok (.aload_n 1, 1) := dk_43 (dk_at dksX2_test_0 9 rfl rfl)
theorem dX2_test_10 : decode cX2_test 10 = .ok (.getfield 313, 3) := dk_180 1 57 (dk_at dksX2_test_0 10 rfl rfl)
theorem dX2_test_13 : decode cX2_test 13 = .ok (.aload_n 0, 1) := dk_42 (dk_at dksX2_test_0 13 rfl rfl)
theorem dX2_test_14 : decode cX2_test 14 = .ok (.invokevirtual 316, 3) := dk_182 1 60 (dk_at dksX2_test_0 14 rfl rfl)
theorem dX2_test_17 : decode cX2_test 17 = .ok (.invokeinterface 166 2, 5) := by decide +kernel
theorem dX2_test_22 : decode cX2_test 22 = .ok (.pop, 1) := dk_87 (dk_at dksX2_test_0 22 rfl rfl)
theorem dX2_test_23 : decode cX2_test 23 = .ok (.aload_n 0, 1) := dk_42 (dk_at dksX2_test_0 23 rfl rfl)
theorem dX2_test_24 : decode cX2_test 24 = .ok (.ldc_w 319, 3) := dk_19 1 63 (dk_at dksX2_test_1 0 rfl rfl)
theorem dX2_test_27 : decode cX2_test 27 = .ok (.invokevirtual 321, 3) := dk_182 1 65 (dk_at dksX2_test_1 3 rfl rfl)
theorem dX2_test_30 : decode cX2_test 30 = .ok (.ifCond .eq 20, 3) := dk_153 0 20 (dk_at dksX2_test_1 6 rfl rfl)
theorem dX2_test_33 : decode cX2_test 33 = .ok (.aload_n 1, 1) := dk_43 (dk_at dksX2_test_1 9 rfl rfl)
theorem dX2_test_34 : decode cX2_test 34 = .ok (.getfield 313, 3) := dk_180 1 57 (dk_at dksX2_test_1 10 rfl rfl)
theorem dX2_test_37 : decode cX2_test 37 = .ok (.aload_n 0, 1) := dk_42 (dk_at dksX2_test_1 13 rfl rfl)
theorem dX2_test_38 : decode cX2_test 38 = .ok (.invokevirtual 316, 3) := dk_182 1 60 (dk_at dksX2_test_1 14 rfl rfl)
theorem dX2_test_41 : decode cX2_test 41 = .ok (.invokeinterface 166 2, 5) := by decide +kernel
theorem dX2_test_46 : decode cX2_test 46 = .ok (.pop, 1) := dk_87 (dk_at dksX2_test_1 22 rfl rfl)
theorem dX2_test_47 : decode cX2_test 47 = .ok (.goto (-24), 3) := dk_167 255 232 (dk_at dksX2_test_2 0 rfl rfl)
theorem dX2_test_50 : decode cX2_test 50 = .ok (.aload_n 1, 1) := dk_43 (dk_at dksX2_test_2 3 rfl rfl)
theorem dX2_test_51 : decode cX2_test 51 = .ok (.areturn, 1) := dk_176 (dk_at dksX2_test_2 4 rfl rfl)
abbrev cX2_both : ByteArray := prog_17_method_28_code
def yX2_both : MethodName := ⟨RX2, "both", "()LFourOnOne$Test;"⟩
def dkwX2_both_2 : List UInt8 := [167, 255, 232, 43, 176]
abbrev dktX2_both_2 : List UInt8 := dkwX2_both_2 ++ []
def dkwX2_both_1 : List UInt8 := [19, 1, 71, 182, 1, 65, 153, 0, 20, 43, 180, 1, 57, 42, 182, 1, 68, 185, 0, 166, 2, 0, 87]
abbrev dktX2_both_1 : List UInt8 := dkwX2_both_1 ++ dktX2_both_2
def dkwX2_both_0 : List UInt8 := [187, 1, 52, 89, 4, 183, 1, 54, 76, 43, 180, 1, 57, 42, 182, 1, 68, 185, 0, 166, 2, 0, 87, 42]
abbrev dktX2_both_0 : List UInt8 := dkwX2_both_0 ++ dktX2_both_1
theorem dksX2_both_0 : cX2_both.data.toList.drop 0 = dktX2_both_0 := by decide +kernel
theorem dksX2_both_1 : cX2_both.data.toList.drop 24 = dktX2_both_1 := dk_seg dksX2_both_0 24 rfl rfl
theorem dksX2_both_2 : cX2_both.data.toList.drop 47 = dktX2_both_2 := dk_seg dksX2_both_1 23 rfl rfl
theorem dX2_both_0 : decode cX2_both 0 = .ok (.new 308, 3) := dk_187 1 52 (dk_at dksX2_both_0 0 rfl rfl)
theorem dX2_both_3 : decode cX2_both 3 = .ok (.dup, 1) := dk_89 (dk_at dksX2_both_0 3 rfl rfl)
theorem dX2_both_4 : decode cX2_both 4 = .ok (.iconst 1, 1) := dk_4 (dk_at dksX2_both_0 4 rfl rfl)
theorem dX2_both_5 : decode cX2_both 5 = .ok (.invokespecial 310, 3) := dk_183 1 54 (dk_at dksX2_both_0 5 rfl rfl)
theorem dX2_both_8 : decode cX2_both 8 = .ok (.astore_n 1, 1) := dk_76 (dk_at dksX2_both_0 8 rfl rfl)
theorem dX2_both_9 : decode cX2_both 9 = .ok (.aload_n 1, 1) := dk_43 (dk_at dksX2_both_0 9 rfl rfl)
theorem dX2_both_10 : decode cX2_both 10 = .ok (.getfield 313, 3) := dk_180 1 57 (dk_at dksX2_both_0 10 rfl rfl)
theorem dX2_both_13 : decode cX2_both 13 = .ok (.aload_n 0, 1) := dk_42 (dk_at dksX2_both_0 13 rfl rfl)
theorem dX2_both_14 : decode cX2_both 14 = .ok (.invokevirtual 324, 3) := dk_182 1 68 (dk_at dksX2_both_0 14 rfl rfl)
theorem dX2_both_17 : decode cX2_both 17 = .ok (.invokeinterface 166 2, 5) := by decide +kernel
theorem dX2_both_22 : decode cX2_both 22 = .ok (.pop, 1) := dk_87 (dk_at dksX2_both_0 22 rfl rfl)
theorem dX2_both_23 : decode cX2_both 23 = .ok (.aload_n 0, 1) := dk_42 (dk_at dksX2_both_0 23 rfl rfl)
theorem dX2_both_24 : decode cX2_both 24 = .ok (.ldc_w 327, 3) := dk_19 1 71 (dk_at dksX2_both_1 0 rfl rfl)
theorem dX2_both_27 : decode cX2_both 27 = .ok (.invokevirtual 321, 3) := dk_182 1 65 (dk_at dksX2_both_1 3 rfl rfl)
theorem dX2_both_30 : decode cX2_both 30 = .ok (.ifCond .eq 20, 3) := dk_153 0 20 (dk_at dksX2_both_1 6 rfl rfl)
theorem dX2_both_33 : decode cX2_both 33 = .ok (.aload_n 1, 1) := dk_43 (dk_at dksX2_both_1 9 rfl rfl)
theorem dX2_both_34 : decode cX2_both 34 = .ok (.getfield 313, 3) := dk_180 1 57 (dk_at dksX2_both_1 10 rfl rfl)
theorem dX2_both_37 : decode cX2_both 37 = .ok (.aload_n 0, 1) := dk_42 (dk_at dksX2_both_1 13 rfl rfl)
theorem dX2_both_38 : decode cX2_both 38 = .ok (.invokevirtual 324, 3) := dk_182 1 68 (dk_at dksX2_both_1 14 rfl rfl)
theorem dX2_both_41 : decode cX2_both 41 = .ok (.invokeinterface 166 2, 5) := by decide +kernel
theorem dX2_both_46 : decode cX2_both 46 = .ok (.pop, 1) := dk_87 (dk_at dksX2_both_1 22 rfl rfl)
theorem dX2_both_47 : decode cX2_both 47 = .ok (.goto (-24), 3) := dk_167 255 232 (dk_at dksX2_both_2 0 rfl rfl)
theorem dX2_both_50 : decode cX2_both 50 = .ok (.aload_n 1, 1) := dk_43 (dk_at dksX2_both_2 3 rfl rfl)
theorem dX2_both_51 : decode cX2_both 51 = .ok (.areturn, 1) := dk_176 (dk_at dksX2_both_2 4 rfl rfl)
abbrev cX2_fact : ByteArray := prog_17_method_29_code
def yX2_fact : MethodName := ⟨RX2, "fact", "()LFourOnOne$Test;"⟩
def dkwX2_fact_7 : List UInt8 := [183, 1, 87, 176]
abbrev dktX2_fact_7 : List UInt8 := dkwX2_fact_7 ++ []
def dkwX2_fact_6 : List UInt8 := [182, 0, 47, 191, 42, 89, 180, 0, 36, 4, 96, 181, 0, 36, 187, 1, 85, 89, 43, 28, 42, 182, 0, 217]
abbrev dktX2_fact_6 : List UInt8 := dkwX2_fact_6 ++ dktX2_fact_7
def dkwX2_fact_5 : List UInt8 := [28, 16, 60, 159, 0, 25, 28, 16, 62, 159, 0, 19, 28, 16, 61, 159, 0, 13, 42, 4, 42, 180, 0, 36]
abbrev dktX2_fact_5 : List UInt8 := dkwX2_fact_5 ++ dktX2_fact_6
def dkwX2_fact_4 : List UInt8 := [182, 1, 65, 153, 0, 11, 187, 1, 82, 89, 183, 1, 84, 176, 42, 182, 0, 217, 76, 42, 182, 0, 43, 61]
abbrev dktX2_fact_4 : List UInt8 := dkwX2_fact_4 ++ dktX2_fact_5
def dkwX2_fact_3 : List UInt8 := [42, 182, 1, 68, 183, 1, 77, 76, 42, 89, 180, 0, 119, 4, 100, 181, 0, 119, 43, 176, 42, 19, 1, 80]
abbrev dktX2_fact_3 : List UInt8 := dkwX2_fact_3 ++ dktX2_fact_4
def dkwX2_fact_2 : List UInt8 := [43, 176, 42, 19, 1, 73, 182, 1, 65, 153, 0, 35, 42, 42, 180, 0, 61, 182, 1, 18, 187, 1, 75, 89]
abbrev dktX2_fact_2 : List UInt8 := dkwX2_fact_2 ++ dktX2_fact_3
def dkwX2_fact_1 : List UInt8 := [181, 0, 36, 42, 182, 0, 247, 76, 42, 16, 93, 182, 0, 137, 42, 89, 180, 0, 119, 4, 100, 181, 0, 119]
abbrev dktX2_fact_1 : List UInt8 := dkwX2_fact_1 ++ dktX2_fact_2
def dkwX2_fact_0 : List UInt8 := [42, 182, 0, 43, 16, 91, 160, 0, 44, 42, 42, 180, 0, 36, 182, 1, 18, 42, 89, 180, 0, 36, 4, 96]
abbrev dktX2_fact_0 : List UInt8 := dkwX2_fact_0 ++ dktX2_fact_1
theorem dksX2_fact_0 : cX2_fact.data.toList.drop 0 = dktX2_fact_0 := by decide +kernel
theorem dksX2_fact_1 : cX2_fact.data.toList.drop 24 = dktX2_fact_1 := dk_seg dksX2_fact_0 24 rfl rfl
theorem dksX2_fact_2 : cX2_fact.data.toList.drop 48 = dktX2_fact_2 := dk_seg dksX2_fact_1 24 rfl rfl
theorem dksX2_fact_3 : cX2_fact.data.toList.drop 72 = dktX2_fact_3 := dk_seg dksX2_fact_2 24 rfl rfl
theorem dksX2_fact_4 : cX2_fact.data.toList.drop 96 = dktX2_fact_4 := dk_seg dksX2_fact_3 24 rfl rfl
theorem dksX2_fact_5 : cX2_fact.data.toList.drop 120 = dktX2_fact_5 := dk_seg dksX2_fact_4 24 rfl rfl
theorem dksX2_fact_6 : cX2_fact.data.toList.drop 144 = dktX2_fact_6 := dk_seg dksX2_fact_5 24 rfl rfl
theorem dksX2_fact_7 : cX2_fact.data.toList.drop 168 = dktX2_fact_7 := dk_seg dksX2_fact_6 24 rfl rfl
theorem dX2_fact_0 : decode cX2_fact 0 = .ok (.aload_n 0, 1) := dk_42 (dk_at dksX2_fact_0 0 rfl rfl)
theorem dX2_fact_1 : decode cX2_fact 1 = .ok (.invokevirtual 43, 3) := dk_182 0 43 (dk_at dksX2_fact_0 1 rfl rfl)
theorem dX2_fact_4 : decode cX2_fact 4 = .ok (.bipush 91, 2) := dk_16 91 (dk_at dksX2_fact_0 4 rfl rfl)
theorem dX2_fact_6 : decode cX2_fact 6 = .ok (.if_icmp .ne 44, 3) := dk_160 0 44 (dk_at dksX2_fact_0 6 rfl rfl)
theorem dX2_fact_9 : decode cX2_fact 9 = .ok (.aload_n 0, 1) := dk_42 (dk_at dksX2_fact_0 9 rfl rfl)
theorem dX2_fact_10 : decode cX2_fact 10 = .ok (.aload_n 0, 1) := dk_42 (dk_at dksX2_fact_0 10 rfl rfl)
theorem dX2_fact_11 : decode cX2_fact 11 = .ok (.getfield 36, 3) := dk_180 0 36 (dk_at dksX2_fact_0 11 rfl rfl)
theorem dX2_fact_14 : decode cX2_fact 14 = .ok (.invokevirtual 274, 3) := dk_182 1 18 (dk_at dksX2_fact_0 14 rfl rfl)
theorem dX2_fact_17 : decode cX2_fact 17 = .ok (.aload_n 0, 1) := dk_42 (dk_at dksX2_fact_0 17 rfl rfl)
theorem dX2_fact_18 : decode cX2_fact 18 = .ok (.dup, 1) := dk_89 (dk_at dksX2_fact_0 18 rfl rfl)
theorem dX2_fact_19 : decode cX2_fact 19 = .ok (.getfield 36, 3) := dk_180 0 36 (dk_at dksX2_fact_0 19 rfl rfl)
theorem dX2_fact_22 : decode cX2_fact 22 = .ok (.iconst 1, 1) := dk_4 (dk_at dksX2_fact_0 22 rfl rfl)
theorem dX2_fact_23 : decode cX2_fact 23 = .ok (.iadd, 1) := dk_96 (dk_at dksX2_fact_0 23 rfl rfl)
theorem dX2_fact_24 : decode cX2_fact 24 = .ok (.putfield 36, 3) := dk_181 0 36 (dk_at dksX2_fact_1 0 rfl rfl)
theorem dX2_fact_27 : decode cX2_fact 27 = .ok (.aload_n 0, 1) := dk_42 (dk_at dksX2_fact_1 3 rfl rfl)
theorem dX2_fact_28 : decode cX2_fact 28 = .ok (.invokevirtual 247, 3) := dk_182 0 247 (dk_at dksX2_fact_1 4 rfl rfl)
theorem dX2_fact_31 : decode cX2_fact 31 = .ok (.astore_n 1, 1) := dk_76 (dk_at dksX2_fact_1 7 rfl rfl)
theorem dX2_fact_32 : decode cX2_fact 32 = .ok (.aload_n 0, 1) := dk_42 (dk_at dksX2_fact_1 8 rfl rfl)
theorem dX2_fact_33 : decode cX2_fact 33 = .ok (.bipush 93, 2) := dk_16 93 (dk_at dksX2_fact_1 9 rfl rfl)
theorem dX2_fact_35 : decode cX2_fact 35 = .ok (.invokevirtual 137, 3) := dk_182 0 137 (dk_at dksX2_fact_1 11 rfl rfl)
theorem dX2_fact_38 : decode cX2_fact 38 = .ok (.aload_n 0, 1) := dk_42 (dk_at dksX2_fact_1 14 rfl rfl)
theorem dX2_fact_39 : decode cX2_fact 39 = .ok (.dup, 1) := dk_89 (dk_at dksX2_fact_1 15 rfl rfl)
theorem dX2_fact_40 : decode cX2_fact 40 = .ok (.getfield 119, 3) := dk_180 0 119 (dk_at dksX2_fact_1 16 rfl rfl)
theorem dX2_fact_43 : decode cX2_fact 43 = .ok (.iconst 1, 1) := dk_4 (dk_at dksX2_fact_1 19 rfl rfl)
theorem dX2_fact_44 : decode cX2_fact 44 = .ok (.isub, 1) := dk_100 (dk_at dksX2_fact_1 20 rfl rfl)
theorem dX2_fact_45 : decode cX2_fact 45 = .ok (.putfield 119, 3) := dk_181 0 119 (dk_at dksX2_fact_1 21 rfl rfl)
theorem dX2_fact_48 : decode cX2_fact 48 = .ok (.aload_n 1, 1) := dk_43 (dk_at dksX2_fact_2 0 rfl rfl)
theorem dX2_fact_49 : decode cX2_fact 49 = .ok (.areturn, 1) := dk_176 (dk_at dksX2_fact_2 1 rfl rfl)
theorem dX2_fact_50 : decode cX2_fact 50 = .ok (.aload_n 0, 1) := dk_42 (dk_at dksX2_fact_2 2 rfl rfl)
theorem dX2_fact_51 : decode cX2_fact 51 = .ok (.ldc_w 329, 3) := dk_19 1 73 (dk_at dksX2_fact_2 3 rfl rfl)
theorem dX2_fact_54 : decode cX2_fact 54 = .ok (.invokevirtual 321, 3) := dk_182 1 65 (dk_at dksX2_fact_2 6 rfl rfl)
theorem dX2_fact_57 : decode cX2_fact 57 = .ok (.ifCond .eq 35, 3) := dk_153 0 35 (dk_at dksX2_fact_2 9 rfl rfl)
theorem dX2_fact_60 : decode cX2_fact 60 = .ok (.aload_n 0, 1) := dk_42 (dk_at dksX2_fact_2 12 rfl rfl)
theorem dX2_fact_61 : decode cX2_fact 61 = .ok (.aload_n 0, 1) := dk_42 (dk_at dksX2_fact_2 13 rfl rfl)
theorem dX2_fact_62 : decode cX2_fact 62 = .ok (.getfield 61, 3) := dk_180 0 61 (dk_at dksX2_fact_2 14 rfl rfl)
theorem dX2_fact_65 : decode cX2_fact 65 = .ok (.invokevirtual 274, 3) := dk_182 1 18 (dk_at dksX2_fact_2 17 rfl rfl)
theorem dX2_fact_68 : decode cX2_fact 68 = .ok (.new 331, 3) := dk_187 1 75 (dk_at dksX2_fact_2 20 rfl rfl)
theorem dX2_fact_71 : decode cX2_fact 71 = .ok (.dup, 1) := dk_89 (dk_at dksX2_fact_2 23 rfl rfl)
theorem dX2_fact_72 : decode cX2_fact 72 = .ok (.aload_n 0, 1) := dk_42 (dk_at dksX2_fact_3 0 rfl rfl)
theorem dX2_fact_73 : decode cX2_fact 73 = .ok (.invokevirtual 324, 3) := dk_182 1 68 (dk_at dksX2_fact_3 1 rfl rfl)
theorem dX2_fact_76 : decode cX2_fact 76 = .ok (.invokespecial 333, 3) := dk_183 1 77 (dk_at dksX2_fact_3 4 rfl rfl)
theorem dX2_fact_79 : decode cX2_fact 79 = .ok (.astore_n 1, 1) := dk_76 (dk_at dksX2_fact_3 7 rfl rfl)
theorem dX2_fact_80 : decode cX2_fact 80 = .ok (.aload_n 0, 1) := dk_42 (dk_at dksX2_fact_3 8 rfl rfl)
theorem dX2_fact_81 : decode cX2_fact 81 = .ok (.dup, 1) := dk_89 (dk_at dksX2_fact_3 9 rfl rfl)
theorem dX2_fact_82 : decode cX2_fact 82 = .ok (.getfield 119, 3) := dk_180 0 119 (dk_at dksX2_fact_3 10 rfl rfl)
theorem dX2_fact_85 : decode cX2_fact 85 = .ok (.iconst 1, 1) := dk_4 (dk_at dksX2_fact_3 13 rfl rfl)
theorem dX2_fact_86 : decode cX2_fact 86 = .ok (.isub, 1) := dk_100 (dk_at dksX2_fact_3 14 rfl rfl)
theorem dX2_fact_87 : decode cX2_fact 87 = .ok (.putfield 119, 3) := dk_181 0 119 (dk_at dksX2_fact_3 15 rfl rfl)
theorem dX2_fact_90 : decode cX2_fact 90 = .ok (.aload_n 1, 1) := dk_43 (dk_at dksX2_fact_3 18 rfl rfl)
theorem dX2_fact_91 : decode cX2_fact 91 = .ok (.areturn, 1) := dk_176 (dk_at dksX2_fact_3 19 rfl rfl)
theorem dX2_fact_92 : decode cX2_fact 92 = .ok (.aload_n 0, 1) := dk_42 (dk_at dksX2_fact_3 20 rfl rfl)
theorem dX2_fact_93 : decode cX2_fact 93 = .ok (.ldc_w 336, 3) := dk_19 1 80 (dk_at dksX2_fact_3 21 rfl rfl)
theorem dX2_fact_96 : decode cX2_fact 96 = .ok (.invokevirtual 321, 3) := dk_182 1 65 (dk_at dksX2_fact_4 0 rfl rfl)
theorem dX2_fact_99 : decode cX2_fact 99 = .ok (.ifCond .eq 11, 3) := dk_153 0 11 (dk_at dksX2_fact_4 3 rfl rfl)
theorem dX2_fact_102 : decode cX2_fact 102 = .ok (.new 338, 3) := dk_187 1 82 (dk_at dksX2_fact_4 6 rfl rfl)
theorem dX2_fact_105 : decode cX2_fact 105 = .ok (.dup, 1) := dk_89 (dk_at dksX2_fact_4 9 rfl rfl)
theorem dX2_fact_106 : decode cX2_fact 106 = .ok (.invokespecial 340, 3) := dk_183 1 84 (dk_at dksX2_fact_4 10 rfl rfl)
theorem dX2_fact_109 : decode cX2_fact 109 = .ok (.areturn, 1) := dk_176 (dk_at dksX2_fact_4 13 rfl rfl)
theorem dX2_fact_110 : decode cX2_fact 110 = .ok (.aload_n 0, 1) := dk_42 (dk_at dksX2_fact_4 14 rfl rfl)
theorem dX2_fact_111 : decode cX2_fact 111 = .ok (.invokevirtual 217, 3) := dk_182 0 217 (dk_at dksX2_fact_4 15 rfl rfl)
theorem dX2_fact_114 : decode cX2_fact 114 = .ok (.astore_n 1, 1) := dk_76 (dk_at dksX2_fact_4 18 rfl rfl)
theorem dX2_fact_115 : decode cX2_fact 115 = .ok (.aload_n 0, 1) := dk_42 (dk_at dksX2_fact_4 19 rfl rfl)
theorem dX2_fact_116 : decode cX2_fact 116 = .ok (.invokevirtual 43, 3) := dk_182 0 43 (dk_at dksX2_fact_4 20 rfl rfl)
theorem dX2_fact_119 : decode cX2_fact 119 = .ok (.istore_n 2, 1) := dk_61 (dk_at dksX2_fact_4 23 rfl rfl)
theorem dX2_fact_120 : decode cX2_fact 120 = .ok (.iload_n 2, 1) := dk_28 (dk_at dksX2_fact_5 0 rfl rfl)
theorem dX2_fact_121 : decode cX2_fact 121 = .ok (.bipush 60, 2) := dk_16 60 (dk_at dksX2_fact_5 1 rfl rfl)
theorem dX2_fact_123 : decode cX2_fact 123 = .ok (.if_icmp .eq 25, 3) := dk_159 0 25 (dk_at dksX2_fact_5 3 rfl rfl)
theorem dX2_fact_126 : decode cX2_fact 126 = .ok (.iload_n 2, 1) := dk_28 (dk_at dksX2_fact_5 6 rfl rfl)
theorem dX2_fact_127 : decode cX2_fact 127 = .ok (.bipush 62, 2) := dk_16 62 (dk_at dksX2_fact_5 7 rfl rfl)
theorem dX2_fact_129 : decode cX2_fact 129 = .ok (.if_icmp .eq 19, 3) := dk_159 0 19 (dk_at dksX2_fact_5 9 rfl rfl)
theorem dX2_fact_132 : decode cX2_fact 132 = .ok (.iload_n 2, 1) := dk_28 (dk_at dksX2_fact_5 12 rfl rfl)
theorem dX2_fact_133 : decode cX2_fact 133 = .ok (.bipush 61, 2) := dk_16 61 (dk_at dksX2_fact_5 13 rfl rfl)
theorem dX2_fact_135 : decode cX2_fact 135 = .ok (.if_icmp .eq 13, 3) := dk_159 0 13 (dk_at dksX2_fact_5 15 rfl rfl)
theorem dX2_fact_138 : decode cX2_fact 138 = .ok (.aload_n 0, 1) := dk_42 (dk_at dksX2_fact_5 18 rfl rfl)
theorem dX2_fact_139 : decode cX2_fact 139 = .ok (.iconst 1, 1) := dk_4 (dk_at dksX2_fact_5 19 rfl rfl)
theorem dX2_fact_140 : decode cX2_fact 140 = .ok (.aload_n 0, 1) := dk_42 (dk_at dksX2_fact_5 20 rfl rfl)
theorem dX2_fact_141 : decode cX2_fact 141 = .ok (.getfield 36, 3) := dk_180 0 36 (dk_at dksX2_fact_5 21 rfl rfl)
theorem dX2_fact_144 : decode cX2_fact 144 = .ok (.invokevirtual 47, 3) := dk_182 0 47 (dk_at dksX2_fact_6 0 rfl rfl)
theorem dX2_fact_147 : decode cX2_fact 147 = .ok (.athrow, 1) := dk_191 (dk_at dksX2_fact_6 3 rfl rfl)
theorem dX2_fact_148 : decode cX2_fact 148 = .ok (.aload_n 0, 1) := dk_42 (dk_at dksX2_fact_6 4 rfl rfl)
theorem dX2_fact_149 : decode cX2_fact 149 = .ok (.dup, 1) := dk_89 (dk_at dksX2_fact_6 5 rfl rfl)
theorem dX2_fact_150 : decode cX2_fact 150 = .ok (.getfield 36, 3) := dk_180 0 36 (dk_at dksX2_fact_6 6 rfl rfl)
theorem dX2_fact_153 : decode cX2_fact 153 = .ok (.iconst 1, 1) := dk_4 (dk_at dksX2_fact_6 9 rfl rfl)
theorem dX2_fact_154 : decode cX2_fact 154 = .ok (.iadd, 1) := dk_96 (dk_at dksX2_fact_6 10 rfl rfl)
theorem dX2_fact_155 : decode cX2_fact 155 = .ok (.putfield 36, 3) := dk_181 0 36 (dk_at dksX2_fact_6 11 rfl rfl)
theorem dX2_fact_158 : decode cX2_fact 158 = .ok (.new 341, 3) := dk_187 1 85 (dk_at dksX2_fact_6 14 rfl rfl)
theorem dX2_fact_161 : decode cX2_fact 161 = .ok (.dup, 1) := dk_89 (dk_at dksX2_fact_6 17 rfl rfl)
theorem dX2_fact_162 : decode cX2_fact 162 = .ok (.aload_n 1, 1) := dk_43 (dk_at dksX2_fact_6 18 rfl rfl)
theorem dX2_fact_163 : decode cX2_fact 163 = .ok (.iload_n 2, 1) := dk_28 (dk_at dksX2_fact_6 19 rfl rfl)
theorem dX2_fact_164 : decode cX2_fact 164 = .ok (.aload_n 0, 1) := dk_42 (dk_at dksX2_fact_6 20 rfl rfl)
theorem dX2_fact_165 : decode cX2_fact 165 = .ok (.invokevirtual 217, 3) := dk_182 0 217 (dk_at dksX2_fact_6 21 rfl rfl)
theorem dX2_fact_168 : decode cX2_fact 168 = .ok (.invokespecial 343, 3) := dk_183 1 87 (dk_at dksX2_fact_7 0 rfl rfl)
theorem dX2_fact_171 : decode cX2_fact 171 = .ok (.areturn, 1) := dk_176 (dk_at dksX2_fact_7 3 rfl rfl)
abbrev cX2_passes : ByteArray := prog_17_method_9_code
def yX2_passes : MethodName := ⟨RX2, "passes", "(Ljava/lang/String;)Z"⟩
def dkwX2_passes_1 : List UInt8 := [182, 0, 74, 153, 0, 5, 4, 172, 42, 28, 181, 0, 36, 3, 172]
abbrev dktX2_passes_1 : List UInt8 := dkwX2_passes_1 ++ []
def dkwX2_passes_0 : List UInt8 := [42, 180, 0, 36, 61, 42, 182, 0, 43, 184, 0, 51, 154, 0, 5, 3, 172, 42, 182, 0, 70, 43]
abbrev dktX2_passes_0 : List UInt8 := dkwX2_passes_0 ++ dktX2_passes_1
theorem dksX2_passes_0 : cX2_passes.data.toList.drop 0 = dktX2_passes_0 := by decide +kernel
theorem dksX2_passes_1 : cX2_passes.data.toList.drop 22 = dktX2_passes_1 := dk_seg dksX2_passes_0 22 rfl rfl
theorem dX2_passes_0 : decode cX2_passes 0 = .ok (.aload_n 0, 1) := dk_42 (dk_at dksX2_passes_0 0 rfl rfl)
theorem dX2_passes_1 : decode cX2_passes 1 = .ok (.getfield 36, 3) := dk_180 0 36 (dk_at dksX2_passes_0 1 rfl rfl)
theorem dX2_passes_4 : decode cX2_passes 4 = .ok (.istore_n 2, 1) := dk_61 (dk_at dksX2_passes_0 4 rfl rfl)
theorem dX2_passes_5 : decode cX2_passes 5 = .ok (.aload_n 0, 1) := dk_42 (dk_at dksX2_passes_0 5 rfl rfl)
theorem dX2_passes_6 : decode cX2_passes 6 = .ok (.invokevirtual 43, 3) := dk_182 0 43 (dk_at dksX2_passes_0 6 rfl rfl)
theorem dX2_passes_9 : decode cX2_passes 9 = .ok (.invokestatic 51, 3) := dk_184 0 51 (dk_at dksX2_passes_0 9 rfl rfl)
theorem dX2_passes_12 : decode cX2_passes 12 = .ok (.ifCond .ne 5, 3) := dk_154 0 5 (dk_at dksX2_passes_0 12 rfl rfl)
theorem dX2_passes_15 : decode cX2_passes 15 = .ok (.iconst 0, 1) := dk_3 (dk_at dksX2_passes_0 15 rfl rfl)
theorem dX2_passes_16 : decode cX2_passes 16 = .ok (.ireturn, 1) := dk_172 (dk_at dksX2_passes_0 16 rfl rfl)
theorem dX2_passes_17 : decode cX2_passes 17 = .ok (.aload_n 0, 1) := dk_42 (dk_at dksX2_passes_0 17 rfl rfl)
theorem dX2_passes_18 : decode cX2_passes 18 = .ok (.invokevirtual 70, 3) := dk_182 0 70 (dk_at dksX2_passes_0 18 rfl rfl)
theorem dX2_passes_21 : decode cX2_passes 21 = .ok (.aload_n 1, 1) := dk_43 (dk_at dksX2_passes_0 21 rfl rfl)
theorem dX2_passes_22 : decode cX2_passes 22 = .ok (.invokevirtual 74, 3) := dk_182 0 74 (dk_at dksX2_passes_1 0 rfl rfl)
theorem dX2_passes_25 : decode cX2_passes 25 = .ok (.ifCond .eq 5, 3) := dk_153 0 5 (dk_at dksX2_passes_1 3 rfl rfl)
theorem dX2_passes_28 : decode cX2_passes 28 = .ok (.iconst 1, 1) := dk_4 (dk_at dksX2_passes_1 6 rfl rfl)
theorem dX2_passes_29 : decode cX2_passes 29 = .ok (.ireturn, 1) := dk_172 (dk_at dksX2_passes_1 7 rfl rfl)
theorem dX2_passes_30 : decode cX2_passes 30 = .ok (.aload_n 0, 1) := dk_42 (dk_at dksX2_passes_1 8 rfl rfl)
theorem dX2_passes_31 : decode cX2_passes 31 = .ok (.iload_n 2, 1) := dk_28 (dk_at dksX2_passes_1 9 rfl rfl)
theorem dX2_passes_32 : decode cX2_passes 32 = .ok (.putfield 36, 3) := dk_181 0 36 (dk_at dksX2_passes_1 10 rfl rfl)
theorem dX2_passes_35 : decode cX2_passes 35 = .ok (.iconst 0, 1) := dk_3 (dk_at dksX2_passes_1 13 rfl rfl)
theorem dX2_passes_36 : decode cX2_passes 36 = .ok (.ireturn, 1) := dk_172 (dk_at dksX2_passes_1 14 rfl rfl)
abbrev cX2_question : ByteArray := prog_17_method_31_code
def yX2_question : MethodName := ⟨RX2, "question", "(I)LFourOnOne$Question;"⟩
def dkwX2_question_4 : List UInt8 := [42, 180, 0, 36, 182, 0, 47, 191, 45, 176]
abbrev dktX2_question_4 : List UInt8 := dkwX2_question_4 ++ []
def dkwX2_question_3 : List UInt8 := [187, 1, 98, 89, 28, 1, 42, 182, 0, 217, 183, 1, 100, 78, 42, 182, 0, 43, 2, 159, 0, 13, 42, 4]
abbrev dktX2_question_3 : List UInt8 := dkwX2_question_3 ++ dktX2_question_4
def dkwX2_question_2 : List UInt8 := [191, 28, 6, 162, 0, 19, 187, 1, 98, 89, 28, 42, 182, 0, 247, 1, 183, 1, 100, 167, 0, 16]
abbrev dktX2_question_2 : List UInt8 := dkwX2_question_2 ++ dktX2_question_3
def dkwX2_question_1 : List UInt8 := [182, 0, 70, 178, 1, 95, 184, 0, 82, 61, 28, 2, 160, 0, 13, 42, 4, 42, 180, 0, 61, 182, 0, 47]
abbrev dktX2_question_1 : List UInt8 := dkwX2_question_1 ++ dktX2_question_2
def dkwX2_question_0 : List UInt8 := [42, 27, 181, 0, 29, 42, 3, 181, 0, 36, 42, 3, 181, 0, 119, 42, 17, 0, 249, 181, 0, 214, 42]
abbrev dktX2_question_0 : List UInt8 := dkwX2_question_0 ++ dktX2_question_1
theorem dksX2_question_0 : cX2_question.data.toList.drop 0 = dktX2_question_0 := by decide +kernel
theorem dksX2_question_1 : cX2_question.data.toList.drop 23 = dktX2_question_1 := dk_seg dksX2_question_0 23 rfl rfl
theorem dksX2_question_2 : cX2_question.data.toList.drop 47 = dktX2_question_2 := dk_seg dksX2_question_1 24 rfl rfl
theorem dksX2_question_3 : cX2_question.data.toList.drop 69 = dktX2_question_3 := dk_seg dksX2_question_2 22 rfl rfl
theorem dksX2_question_4 : cX2_question.data.toList.drop 93 = dktX2_question_4 := dk_seg dksX2_question_3 24 rfl rfl
theorem dX2_question_0 : decode cX2_question 0 = .ok (.aload_n 0, 1) := dk_42 (dk_at dksX2_question_0 0 rfl rfl)
theorem dX2_question_1 : decode cX2_question 1 = .ok (.iload_n 1, 1) := dk_27 (dk_at dksX2_question_0 1 rfl rfl)
theorem dX2_question_2 : decode cX2_question 2 = .ok (.putfield 29, 3) := dk_181 0 29 (dk_at dksX2_question_0 2 rfl rfl)
theorem dX2_question_5 : decode cX2_question 5 = .ok (.aload_n 0, 1) := dk_42 (dk_at dksX2_question_0 5 rfl rfl)
theorem dX2_question_6 : decode cX2_question 6 = .ok (.iconst 0, 1) := dk_3 (dk_at dksX2_question_0 6 rfl rfl)
theorem dX2_question_7 : decode cX2_question 7 = .ok (.putfield 36, 3) := dk_181 0 36 (dk_at dksX2_question_0 7 rfl rfl)
theorem dX2_question_10 : decode cX2_question 10 = .ok (.aload_n 0, 1) := dk_42 (dk_at dksX2_question_0 10 rfl rfl)
theorem dX2_question_11 : decode cX2_question 11 = .ok (.iconst 0, 1) := dk_3 (dk_at dksX2_question_0 11 rfl rfl)
theorem dX2_question_12 : decode cX2_question 12 = .ok (.putfield 119, 3) := dk_181 0 119 (dk_at dksX2_question_0 12 rfl rfl)
theorem dX2_question_15 : decode cX2_question 15 = .ok (.aload_n 0, 1) := dk_42 (dk_at dksX2_question_0 15 rfl rfl)
theorem dX2_question_16 : decode cX2_question 16 = .ok (.sipush 249, 3) := dk_17 0 249 (dk_at dksX2_question_0 16 rfl rfl)
theorem dX2_question_19 : decode cX2_question 19 = .ok (.putfield 214, 3) := dk_181 0 214 (dk_at dksX2_question_0 19 rfl rfl)
theorem dX2_question_22 : decode cX2_question 22 = .ok (.aload_n 0, 1) := dk_42 (dk_at dksX2_question_0 22 rfl rfl)
theorem dX2_question_23 : decode cX2_question 23 = .ok (.invokevirtual 70, 3) := dk_182 0 70 (dk_at dksX2_question_1 0 rfl rfl)
theorem dX2_question_26 : decode cX2_question 26 = .ok (.getstatic 351, 3) := dk_178 1 95 (dk_at dksX2_question_1 3 rfl rfl)
theorem dX2_question_29 : decode cX2_question 29 = .ok (.invokestatic 82, 3) := dk_184 0 82 (dk_at dksX2_question_1 6 rfl rfl)
theorem dX2_question_32 : decode cX2_question 32 = .ok (.istore_n 2, 1) := dk_61 (dk_at dksX2_question_1 9 rfl rfl)
theorem dX2_question_33 : decode cX2_question 33 = .ok (.iload_n 2, 1) := dk_28 (dk_at dksX2_question_1 10 rfl rfl)
theorem dX2_question_34 : decode cX2_question 34 = .ok (.iconst (-1), 1) := dk_2 (dk_at dksX2_question_1 11 rfl rfl)
theorem dX2_question_35 : decode cX2_question 35 = .ok (.if_icmp .ne 13, 3) := dk_160 0 13 (dk_at dksX2_question_1 12 rfl rfl)
theorem dX2_question_38 : decode cX2_question 38 = .ok (.aload_n 0, 1) := dk_42 (dk_at dksX2_question_1 15 rfl rfl)
theorem dX2_question_39 : decode cX2_question 39 = .ok (.iconst 1, 1) := dk_4 (dk_at dksX2_question_1 16 rfl rfl)
theorem dX2_question_40 : decode cX2_question 40 = .ok (.aload_n 0, 1) := dk_42 (dk_at dksX2_question_1 17 rfl rfl)
theorem dX2_question_41 : decode cX2_question 41 = .ok (.getfield 61, 3) := dk_180 0 61 (dk_at dksX2_question_1 18 rfl rfl)
theorem dX2_question_44 : decode cX2_question 44 = .ok (.invokevirtual 47, 3) := dk_182 0 47 (dk_at dksX2_question_1 21 rfl rfl)
theorem dX2_question_47 : decode cX2_question 47 = .ok (.athrow, 1) := dk_191 (dk_at dksX2_question_2 0 rfl rfl)
theorem dX2_question_48 : decode cX2_question 48 = .ok (.iload_n 2, 1) := dk_28 (dk_at dksX2_question_2 1 rfl rfl)
theorem dX2_question_49 : decode cX2_question 49 = .ok (.iconst 3, 1) := dk_6 (dk_at dksX2_question_2 2 rfl rfl)
theorem dX2_question_50 : decode cX2_question 50 = .ok (.if_icmp .ge 19, 3) := dk_162 0 19 (dk_at dksX2_question_2 3 rfl rfl)
theorem dX2_question_53 : decode cX2_question 53 = .ok (.new 354, 3) := dk_187 1 98 (dk_at dksX2_question_2 6 rfl rfl)
theorem dX2_question_56 : decode cX2_question 56 = .ok (.dup, 1) := dk_89 (dk_at dksX2_question_2 9 rfl rfl)
theorem dX2_question_57 : decode cX2_question 57 = .ok (.iload_n 2, 1) := dk_28 (dk_at dksX2_question_2 10 rfl rfl)
theorem dX2_question_58 : decode cX2_question 58 = .ok (.aload_n 0, 1) := dk_42 (dk_at dksX2_question_2 11 rfl rfl)
theorem dX2_question_59 : decode cX2_question 59 = .ok (.invokevirtual 247, 3) := dk_182 0 247 (dk_at dksX2_question_2 12 rfl rfl)
theorem dX2_question_62 : decode cX2_question 62 = .ok (.aconst_null, 1) := dk_1 (dk_at dksX2_question_2 15 rfl rfl)
theorem dX2_question_63 : decode cX2_question 63 = .ok (.invokespecial 356, 3) := dk_183 1 100 (dk_at dksX2_question_2 16 rfl rfl)
theorem dX2_question_66 : decode cX2_question 66 = .ok (.goto 16, 3) := dk_167 0 16 (dk_at dksX2_question_2 19 rfl rfl)
theorem dX2_question_69 : decode cX2_question 69 = .ok (.new 354, 3) := dk_187 1 98 (dk_at dksX2_question_3 0 rfl rfl)
theorem dX2_question_72 : decode cX2_question 72 = .ok (.dup, 1) := dk_89 (dk_at dksX2_question_3 3 rfl rfl)
theorem dX2_question_73 : decode cX2_question 73 = .ok (.iload_n 2, 1) := dk_28 (dk_at dksX2_question_3 4 rfl rfl)
theorem dX2_question_74 : decode cX2_question 74 = .ok (.aconst_null, 1) := dk_1 (dk_at dksX2_question_3 5 rfl rfl)
theorem dX2_question_75 : decode cX2_question 75 = .ok (.aload_n 0, 1) := dk_42 (dk_at dksX2_question_3 6 rfl rfl)
theorem dX2_question_76 : decode cX2_question 76 = .ok (.invokevirtual 217, 3) := dk_182 0 217 (dk_at dksX2_question_3 7 rfl rfl)
theorem dX2_question_79 : decode cX2_question 79 = .ok (.invokespecial 356, 3) := dk_183 1 100 (dk_at dksX2_question_3 10 rfl rfl)
theorem dX2_question_82 : decode cX2_question 82 = .ok (.astore_n 3, 1) := dk_78 (dk_at dksX2_question_3 13 rfl rfl)
theorem dX2_question_83 : decode cX2_question 83 = .ok (.aload_n 0, 1) := dk_42 (dk_at dksX2_question_3 14 rfl rfl)
theorem dX2_question_84 : decode cX2_question 84 = .ok (.invokevirtual 43, 3) := dk_182 0 43 (dk_at dksX2_question_3 15 rfl rfl)
theorem dX2_question_87 : decode cX2_question 87 = .ok (.iconst (-1), 1) := dk_2 (dk_at dksX2_question_3 18 rfl rfl)
theorem dX2_question_88 : decode cX2_question 88 = .ok (.if_icmp .eq 13, 3) := dk_159 0 13 (dk_at dksX2_question_3 19 rfl rfl)
theorem dX2_question_91 : decode cX2_question 91 = .ok (.aload_n 0, 1) := dk_42 (dk_at dksX2_question_3 22 rfl rfl)
theorem dX2_question_92 : decode cX2_question 92 = .ok (.iconst 1, 1) := dk_4 (dk_at dksX2_question_3 23 rfl rfl)
theorem dX2_question_93 : decode cX2_question 93 = .ok (.aload_n 0, 1) := dk_42 (dk_at dksX2_question_4 0 rfl rfl)
theorem dX2_question_94 : decode cX2_question 94 = .ok (.getfield 36, 3) := dk_180 0 36 (dk_at dksX2_question_4 1 rfl rfl)
theorem dX2_question_97 : decode cX2_question 97 = .ok (.invokevirtual 47, 3) := dk_182 0 47 (dk_at dksX2_question_4 4 rfl rfl)
theorem dX2_question_100 : decode cX2_question 100 = .ok (.athrow, 1) := dk_191 (dk_at dksX2_question_4 7 rfl rfl)
theorem dX2_question_101 : decode cX2_question 101 = .ok (.aload_n 3, 1) := dk_45 (dk_at dksX2_question_4 8 rfl rfl)
theorem dX2_question_102 : decode cX2_question 102 = .ok (.areturn, 1) := dk_176 (dk_at dksX2_question_4 9 rfl rfl)
theorem q172 : (Jvm.Cond.initialized "FourOnOne$Reader") ∈ lw_all := lw_g (lw_at lw_m1 6 rfl) rfl
theorem q250 : (Jvm.Cond.fieldLinkNest "FourOnOne$Reader" (122 : Nat) "FourOnOne$House" "statements" "I" "FourOnOne") ∈ lw_tbl := lw_at lw_m1 84 rfl
theorem q252 : (Jvm.Cond.fieldLinkNest "FourOnOne$Reader" (198 : Nat) "FourOnOne$House" "presses" "I" "FourOnOne") ∈ lw_tbl := lw_at lw_m1 86 rfl
theorem q255 : (Jvm.Cond.fieldLinkNest "FourOnOne$Reader" (251 : Nat) "FourOnOne$House" "screens" "I" "FourOnOne") ∈ lw_tbl := lw_at lw_m1 89 rfl
theorem q257 : (Jvm.Cond.fieldLinkNest "FourOnOne$Reader" (253 : Nat) "FourOnOne$House" "price" "I" "FourOnOne") ∈ lw_tbl := lw_at lw_m1 91 rfl
theorem q260 : (Jvm.Cond.fieldLinkNest "FourOnOne$Reader" (255 : Nat) "FourOnOne$House" "bother" "I" "FourOnOne") ∈ lw_tbl := lw_at lw_m1 94 rfl
theorem q261 : (Jvm.Cond.fieldLinkNest "FourOnOne$Reader" (257 : Nat) "FourOnOne$House" "strange" "I" "FourOnOne") ∈ lw_tbl := lw_at lw_m1 95 rfl
theorem q265 : (Jvm.Cond.fieldLinkNest "FourOnOne$Reader" (153 : Nat) "FourOnOne$House" "kinds" "Ljava/util/List;" "FourOnOne") ∈ lw_tbl := lw_at lw_m1 99 rfl
theorem q268 : (Jvm.Cond.fieldLinkNest "FourOnOne$Reader" (169 : Nat) "FourOnOne$House" "films" "Ljava/util/List;" "FourOnOne") ∈ lw_tbl := lw_at lw_m1 102 rfl
theorem q271 : (Jvm.Cond.fieldLinkNest "FourOnOne$Reader" (174 : Nat) "FourOnOne$House" "people" "Ljava/util/List;" "FourOnOne") ∈ lw_tbl := lw_at lw_m1 105 rfl
theorem q273 : (Jvm.Cond.fieldLinkNest "FourOnOne$Reader" (235 : Nat) "FourOnOne$House" "learns" "LFourOnOne$Value;" "FourOnOne") ∈ lw_tbl := lw_at lw_m1 107 rfl
theorem q275 : (Jvm.Cond.fieldLinkNest "FourOnOne$Reader" (242 : Nat) "FourOnOne$House" "fades" "LFourOnOne$Value;" "FourOnOne") ∈ lw_tbl := lw_at lw_m1 109 rfl
theorem q277 : (Jvm.Cond.fieldLinkNest "FourOnOne$Reader" (244 : Nat) "FourOnOne$House" "may" "LFourOnOne$Test;" "FourOnOne") ∈ lw_tbl := lw_at lw_m1 111 rfl
theorem q304 : (Jvm.Cond.instantiable "FourOnOne$Reader" (8 : Nat)) ∈ lw_all := lw_g (lw_at lw_m1 138 rfl) rfl
theorem q306 : (Jvm.Cond.instanceMethod ({ cls := "FourOnOne$Reader", name := "<init>", desc := "(LFourOnOne;)V" } : Jvm.MethodName)) ∈ lw_all := lw_g (lw_at lw_m1 140 rfl) rfl
theorem q307 : (Jvm.Cond.code ({ cls := "FourOnOne$Reader", name := "<init>", desc := "(LFourOnOne;)V" } : Jvm.MethodName) prog_17_method_1_code (2 : Nat) (Option.none : Option Jvm.ClassFile.FieldType)) ∈ lw_all := lw_g (lw_at lw_m1 141 rfl) rfl
theorem q308 : (Jvm.Cond.methodLink "FourOnOne$Reader" (9 : Nat) ({ cls := "java/lang/Object", name := "<init>", desc := "()V" } : Jvm.MethodName)) ∈ lw_all := lw_g (lw_at lw_m1 142 rfl) rfl
theorem q309 : (Jvm.Cond.classLink "FourOnOne$Reader" (15 : Nat) "FourOnOne$Fault") ∈ lw_all := lw_g (lw_at lw_m1 143 rfl) rfl
theorem q348 : (Jvm.Cond.methodLink "FourOnOne$Reader" (17 : Nat) ({ cls := "FourOnOne$Fault", name := "<init>", desc := "()V" } : Jvm.MethodName)) ∈ lw_all := lw_g (lw_at lw_m1 182 rfl) rfl
theorem q360 : (Jvm.Cond.fieldLinkNest "FourOnOne$Reader" (22 : Nat) "FourOnOne$Fault" "kind" "I" "FourOnOne") ∈ lw_tbl := lw_at lw_m1 194 rfl
theorem q362 : (Jvm.Cond.fieldLinkNest "FourOnOne$Reader" (26 : Nat) "FourOnOne$Fault" "place" "I" "FourOnOne") ∈ lw_tbl := lw_at lw_m1 196 rfl
theorem q382 : (Jvm.Cond.fieldLink "FourOnOne$Reader" (18 : Nat) "FourOnOne$Reader" "fault" "LFourOnOne$Fault;") ∈ lw_all := lw_g (lw_at lw_m1 216 rfl) rfl
theorem q383 : (Jvm.Cond.fieldLink "FourOnOne$Reader" (29 : Nat) "FourOnOne$Reader" "size" "I") ∈ lw_all := lw_g (lw_at lw_m1 217 rfl) rfl
theorem q384 : (Jvm.Cond.fieldLink "FourOnOne$Reader" (36 : Nat) "FourOnOne$Reader" "at" "I") ∈ lw_all := lw_g (lw_at lw_m1 218 rfl) rfl
theorem q385 : (Jvm.Cond.fieldLink "FourOnOne$Reader" (61 : Nat) "FourOnOne$Reader" "from" "I") ∈ lw_all := lw_g (lw_at lw_m1 219 rfl) rfl
theorem q386 : (Jvm.Cond.fieldLink "FourOnOne$Reader" (119 : Nat) "FourOnOne$Reader" "open" "I") ∈ lw_all := lw_g (lw_at lw_m1 220 rfl) rfl
theorem q387 : (Jvm.Cond.fieldLink "FourOnOne$Reader" (214 : Nat) "FourOnOne$Reader" "context" "I") ∈ lw_all := lw_g (lw_at lw_m1 221 rfl) rfl
theorem q388 : (Jvm.Cond.fieldLink "FourOnOne$Reader" (103 : Nat) "FourOnOne$Reader" "to" "LFourOnOne$House;") ∈ lw_all := lw_g (lw_at lw_m1 222 rfl) rfl
theorem q389 : (Jvm.Cond.fieldLink "FourOnOne$Reader" (3 : Nat) "FourOnOne$Reader" "this$0" "LFourOnOne;") ∈ lw_all := lw_g (lw_at lw_m1 223 rfl) rfl
theorem q390 : (Jvm.Cond.laysFinal "FourOnOne$Reader" "FourOnOne$Reader" "fault" "LFourOnOne$Fault;") ∈ lw_all := lw_g (lw_at lw_m1 224 rfl) rfl
theorem q391 : (Jvm.Cond.soleField "FourOnOne$Reader" "fault") ∈ lw_all := lw_g (lw_at lw_m1 225 rfl) rfl
theorem q392 : (Jvm.Cond.lays "FourOnOne$Reader" "FourOnOne$Reader" "size" "I") ∈ lw_all := lw_g (lw_at lw_m1 226 rfl) rfl
theorem q393 : (Jvm.Cond.soleField "FourOnOne$Reader" "size") ∈ lw_all := lw_g (lw_at lw_m1 227 rfl) rfl
theorem q394 : (Jvm.Cond.lays "FourOnOne$Reader" "FourOnOne$Reader" "at" "I") ∈ lw_all := lw_g (lw_at lw_m1 228 rfl) rfl
theorem q395 : (Jvm.Cond.soleField "FourOnOne$Reader" "at") ∈ lw_all := lw_g (lw_at lw_m1 229 rfl) rfl
theorem q396 : (Jvm.Cond.lays "FourOnOne$Reader" "FourOnOne$Reader" "from" "I") ∈ lw_all := lw_g (lw_at lw_m1 230 rfl) rfl
theorem q397 : (Jvm.Cond.soleField "FourOnOne$Reader" "from") ∈ lw_all := lw_g (lw_at lw_m1 231 rfl) rfl
theorem q398 : (Jvm.Cond.lays "FourOnOne$Reader" "FourOnOne$Reader" "open" "I") ∈ lw_all := lw_g (lw_at lw_m1 232 rfl) rfl
theorem q399 : (Jvm.Cond.soleField "FourOnOne$Reader" "open") ∈ lw_all := lw_g (lw_at lw_m1 233 rfl) rfl
theorem q400 : (Jvm.Cond.lays "FourOnOne$Reader" "FourOnOne$Reader" "context" "I") ∈ lw_all := lw_g (lw_at lw_m1 234 rfl) rfl
theorem q401 : (Jvm.Cond.soleField "FourOnOne$Reader" "context") ∈ lw_all := lw_g (lw_at lw_m1 235 rfl) rfl
theorem q402 : (Jvm.Cond.lays "FourOnOne$Reader" "FourOnOne$Reader" "to" "LFourOnOne$House;") ∈ lw_all := lw_g (lw_at lw_m1 236 rfl) rfl
theorem q403 : (Jvm.Cond.soleField "FourOnOne$Reader" "to") ∈ lw_all := lw_g (lw_at lw_m1 237 rfl) rfl
theorem q404 : (Jvm.Cond.laysFinal "FourOnOne$Reader" "FourOnOne$Reader" "this$0" "LFourOnOne;") ∈ lw_all := lw_g (lw_at lw_m1 238 rfl) rfl
theorem q405 : (Jvm.Cond.soleField "FourOnOne$Reader" "this$0") ∈ lw_all := lw_g (lw_at lw_m1 239 rfl) rfl
theorem q406 : (Jvm.Cond.superclass "FourOnOne$Reader" "java/lang/Object") ∈ lw_all := lw_g (lw_at lw_m2 0 rfl) rfl
theorem q479 : (Jvm.Cond.fieldLinkNest "FourOnOne$Reader" (32 : Nat) "FourOnOne" "tape" "[B" "FourOnOne") ∈ lw_tbl := lw_at lw_m2 73 rfl
theorem q574 : (Jvm.Cond.instanceMethod ({ cls := "FourOnOne$Reader", name := "all", desc := "(I)LFourOnOne$House;" } : Jvm.MethodName)) ∈ lw_all := lw_g (lw_at lw_m2 168 rfl) rfl
theorem q575 : (Jvm.Cond.selects "FourOnOne$Reader" ({ cls := "FourOnOne$Reader", name := "all", desc := "(I)LFourOnOne$House;" } : Jvm.MethodName) ({ cls := "FourOnOne$Reader", name := "all", desc := "(I)LFourOnOne$House;" } : Jvm.MethodName)) ∈ lw_all := lw_g (lw_at lw_m2 169 rfl) rfl
theorem q576 : (Jvm.Cond.code ({ cls := "FourOnOne$Reader", name := "all", desc := "(I)LFourOnOne$House;" } : Jvm.MethodName) prog_17_method_16_code (3 : Nat) (Option.some (Jvm.ClassFile.FieldType.object "FourOnOne$House"))) ∈ lw_all := lw_g (lw_at lw_m2 170 rfl) rfl
theorem q577 : (Jvm.Cond.classLink "FourOnOne$Reader" (108 : Nat) "FourOnOne$House") ∈ lw_all := lw_g (lw_at lw_m2 171 rfl) rfl
theorem q578 : (Jvm.Cond.methodLinkNest "FourOnOne$Reader" (118 : Nat) ({ cls := "FourOnOne$House", name := "<init>", desc := "()V" } : Jvm.MethodName) "FourOnOne") ∈ lw_tbl := lw_at lw_m2 172 rfl
theorem q579 : (Jvm.Cond.methodLink "FourOnOne$Reader" (43 : Nat) ({ cls := "FourOnOne$Reader", name := "here", desc := "()I" } : Jvm.MethodName)) ∈ lw_all := lw_g (lw_at lw_m2 173 rfl) rfl
theorem q580 : (Jvm.Cond.privateMethod ({ cls := "FourOnOne$Reader", name := "here", desc := "()I" } : Jvm.MethodName)) ∈ lw_tbl := lw_at lw_m2 174 rfl
theorem q581 : (Jvm.Cond.instanceMethod ({ cls := "FourOnOne$Reader", name := "here", desc := "()I" } : Jvm.MethodName)) ∈ lw_all := lw_g (lw_at lw_m2 175 rfl) rfl
theorem q582 : (Jvm.Cond.code ({ cls := "FourOnOne$Reader", name := "here", desc := "()I" } : Jvm.MethodName) prog_17_method_4_code (1 : Nat) (Option.some Jvm.ClassFile.FieldType.int)) ∈ lw_all := lw_g (lw_at lw_m2 176 rfl) rfl
theorem q583 : (Jvm.Cond.methodLink "FourOnOne$Reader" (39 : Nat) ({ cls := "FourOnOne$Reader", name := "byteAt", desc := "(I)I" } : Jvm.MethodName)) ∈ lw_all := lw_g (lw_at lw_m2 177 rfl) rfl
theorem q584 : (Jvm.Cond.privateMethod ({ cls := "FourOnOne$Reader", name := "byteAt", desc := "(I)I" } : Jvm.MethodName)) ∈ lw_tbl := lw_at lw_m2 178 rfl
theorem q585 : (Jvm.Cond.instanceMethod ({ cls := "FourOnOne$Reader", name := "byteAt", desc := "(I)I" } : Jvm.MethodName)) ∈ lw_all := lw_g (lw_at lw_m2 179 rfl) rfl
theorem q586 : (Jvm.Cond.code ({ cls := "FourOnOne$Reader", name := "byteAt", desc := "(I)I" } : Jvm.MethodName) prog_17_method_3_code (2 : Nat) (Option.some Jvm.ClassFile.FieldType.int)) ∈ lw_all := lw_g (lw_at lw_m2 180 rfl) rfl
theorem q587 : (Jvm.Cond.methodLink "FourOnOne$Reader" (125 : Nat) ({ cls := "FourOnOne$Reader", name := "most", desc := "(ZI)V" } : Jvm.MethodName)) ∈ lw_all := lw_g (lw_at lw_m2 181 rfl) rfl
theorem q588 : (Jvm.Cond.privateMethod ({ cls := "FourOnOne$Reader", name := "most", desc := "(ZI)V" } : Jvm.MethodName)) ∈ lw_tbl := lw_at lw_m2 182 rfl
theorem q589 : (Jvm.Cond.instanceMethod ({ cls := "FourOnOne$Reader", name := "most", desc := "(ZI)V" } : Jvm.MethodName)) ∈ lw_all := lw_g (lw_at lw_m2 183 rfl) rfl
theorem q590 : (Jvm.Cond.code ({ cls := "FourOnOne$Reader", name := "most", desc := "(ZI)V" } : Jvm.MethodName) prog_17_method_15_code (3 : Nat) (Option.none : Option Jvm.ClassFile.FieldType)) ∈ lw_all := lw_g (lw_at lw_m2 184 rfl) rfl
theorem q591 : (Jvm.Cond.methodLink "FourOnOne$Reader" (47 : Nat) ({ cls := "FourOnOne$Reader", name := "wrong", desc := "(II)LFourOnOne$Fault;" } : Jvm.MethodName)) ∈ lw_all := lw_g (lw_at lw_m2 185 rfl) rfl
theorem q592 : (Jvm.Cond.privateMethod ({ cls := "FourOnOne$Reader", name := "wrong", desc := "(II)LFourOnOne$Fault;" } : Jvm.MethodName)) ∈ lw_tbl := lw_at lw_m2 186 rfl
theorem q593 : (Jvm.Cond.instanceMethod ({ cls := "FourOnOne$Reader", name := "wrong", desc := "(II)LFourOnOne$Fault;" } : Jvm.MethodName)) ∈ lw_all := lw_g (lw_at lw_m2 187 rfl) rfl
theorem q594 : (Jvm.Cond.code ({ cls := "FourOnOne$Reader", name := "wrong", desc := "(II)LFourOnOne$Fault;" } : Jvm.MethodName) prog_17_method_2_code (3 : Nat) (Option.some (Jvm.ClassFile.FieldType.object "FourOnOne$Fault"))) ∈ lw_all := lw_g (lw_at lw_m2 188 rfl) rfl
theorem q595 : (Jvm.Cond.methodLink "FourOnOne$Reader" (70 : Nat) ({ cls := "FourOnOne$Reader", name := "word", desc := "()Ljava/lang/String;" } : Jvm.MethodName)) ∈ lw_all := lw_g (lw_at lw_m2 189 rfl) rfl
theorem q596 : (Jvm.Cond.privateMethod ({ cls := "FourOnOne$Reader", name := "word", desc := "()Ljava/lang/String;" } : Jvm.MethodName)) ∈ lw_tbl := lw_at lw_m2 190 rfl
theorem q597 : (Jvm.Cond.instanceMethod ({ cls := "FourOnOne$Reader", name := "word", desc := "()Ljava/lang/String;" } : Jvm.MethodName)) ∈ lw_all := lw_g (lw_at lw_m2 191 rfl) rfl
theorem q598 : (Jvm.Cond.code ({ cls := "FourOnOne$Reader", name := "word", desc := "()Ljava/lang/String;" } : Jvm.MethodName) prog_17_method_7_code (3 : Nat) (Option.some (Jvm.ClassFile.FieldType.object "java/lang/String"))) ∈ lw_all := lw_g (lw_at lw_m2 192 rfl) rfl
theorem q599 : (Jvm.Cond.methodLinkNest "FourOnOne$Reader" (51 : Nat) ({ cls := "FourOnOne", name := "isLetter", desc := "(I)Z" } : Jvm.MethodName) "FourOnOne") ∈ lw_tbl := lw_at lw_m2 193 rfl
theorem q602 : (Jvm.Cond.methodLink "FourOnOne$Reader" (58 : Nat) ({ cls := "FourOnOne$Reader", name := "parted", desc := "()V" } : Jvm.MethodName)) ∈ lw_all := lw_g (lw_at lw_m2 196 rfl) rfl
theorem q603 : (Jvm.Cond.privateMethod ({ cls := "FourOnOne$Reader", name := "parted", desc := "()V" } : Jvm.MethodName)) ∈ lw_tbl := lw_at lw_m2 197 rfl
theorem q604 : (Jvm.Cond.instanceMethod ({ cls := "FourOnOne$Reader", name := "parted", desc := "()V" } : Jvm.MethodName)) ∈ lw_all := lw_g (lw_at lw_m2 198 rfl) rfl
theorem q605 : (Jvm.Cond.code ({ cls := "FourOnOne$Reader", name := "parted", desc := "()V" } : Jvm.MethodName) prog_17_method_6_code (1 : Nat) (Option.none : Option Jvm.ClassFile.FieldType)) ∈ lw_all := lw_g (lw_at lw_m2 199 rfl) rfl
theorem q606 : (Jvm.Cond.methodLinkNest "FourOnOne$Reader" (55 : Nat) ({ cls := "FourOnOne", name := "isDigit", desc := "(I)Z" } : Jvm.MethodName) "FourOnOne") ∈ lw_tbl := lw_at lw_m2 200 rfl
theorem q609 : (Jvm.Cond.methodLink "FourOnOne$Reader" (64 : Nat) ({ cls := "java/lang/String", name := "valueOf", desc := "([C)Ljava/lang/String;" } : Jvm.MethodName)) ∈ lw_all := lw_g (lw_at lw_m2 203 rfl) rfl
theorem q687 : (Jvm.Cond.methodLink "FourOnOne$Reader" (129 : Nat) ({ cls := "FourOnOne$Reader", name := "told", desc := "(Ljava/lang/String;I)Z" } : Jvm.MethodName)) ∈ lw_all := lw_g (lw_at lw_m3 41 rfl) rfl
theorem q688 : (Jvm.Cond.privateMethod ({ cls := "FourOnOne$Reader", name := "told", desc := "(Ljava/lang/String;I)Z" } : Jvm.MethodName)) ∈ lw_tbl := lw_at lw_m3 42 rfl
theorem q689 : (Jvm.Cond.instanceMethod ({ cls := "FourOnOne$Reader", name := "told", desc := "(Ljava/lang/String;I)Z" } : Jvm.MethodName)) ∈ lw_all := lw_g (lw_at lw_m3 43 rfl) rfl
theorem q690 : (Jvm.Cond.code ({ cls := "FourOnOne$Reader", name := "told", desc := "(Ljava/lang/String;I)Z" } : Jvm.MethodName) prog_17_method_17_code (10 : Nat) (Option.some Jvm.ClassFile.FieldType.boolean)) ∈ lw_all := lw_g (lw_at lw_m3 44 rfl) rfl
theorem q691 : (Jvm.Cond.methodLink "FourOnOne$Reader" (141 : Nat) ({ cls := "java/lang/String", name := "hashCode", desc := "()I" } : Jvm.MethodName)) ∈ lw_all := lw_g (lw_at lw_m3 45 rfl) rfl
theorem q744 : (Jvm.Cond.stringRef "FourOnOne$Reader" (144 : Nat) "kind") ∈ lw_tbl := lw_at lw_m3 98 rfl
theorem q745 : (Jvm.Cond.methodLink "FourOnOne$Reader" (74 : Nat) ({ cls := "java/lang/String", name := "equals", desc := "(Ljava/lang/Object;)Z" } : Jvm.MethodName)) ∈ lw_all := lw_g (lw_at lw_m3 99 rfl) rfl
theorem q752 : (Jvm.Cond.stringRef "FourOnOne$Reader" (145 : Nat) "film") ∈ lw_tbl := lw_at lw_m3 106 rfl
theorem q753 : (Jvm.Cond.stringRef "FourOnOne$Reader" (147 : Nat) "person") ∈ lw_tbl := lw_at lw_m3 107 rfl
theorem q754 : (Jvm.Cond.stringRef "FourOnOne$Reader" (149 : Nat) "likes") ∈ lw_tbl := lw_at lw_m3 108 rfl
theorem q755 : (Jvm.Cond.stringRef "FourOnOne$Reader" (151 : Nat) "press") ∈ lw_tbl := lw_at lw_m3 109 rfl
theorem q756 : (Jvm.Cond.interfaceEntry "FourOnOne$Reader" (157 : Nat)) ∈ lw_tbl := lw_at lw_m3 110 rfl
theorem q757 : (Jvm.Cond.methodLink "FourOnOne$Reader" (157 : Nat) ({ cls := "java/util/List", name := "size", desc := "()I" } : Jvm.MethodName)) ∈ lw_all := lw_g (lw_at lw_m3 111 rfl) rfl
theorem q766 : (Jvm.Cond.classLink "FourOnOne$Reader" (114 : Nat) "FourOnOne$Named") ∈ lw_all := lw_g (lw_at lw_m3 120 rfl) rfl
theorem q768 : (Jvm.Cond.methodLink "FourOnOne$Reader" (161 : Nat) ({ cls := "FourOnOne$Reader", name := "fresh", desc := "()Ljava/lang/String;" } : Jvm.MethodName)) ∈ lw_all := lw_g (lw_at lw_m3 122 rfl) rfl
theorem q769 : (Jvm.Cond.privateMethod ({ cls := "FourOnOne$Reader", name := "fresh", desc := "()Ljava/lang/String;" } : Jvm.MethodName)) ∈ lw_tbl := lw_at lw_m3 123 rfl
theorem q770 : (Jvm.Cond.instanceMethod ({ cls := "FourOnOne$Reader", name := "fresh", desc := "()Ljava/lang/String;" } : Jvm.MethodName)) ∈ lw_all := lw_g (lw_at lw_m3 124 rfl) rfl
theorem q771 : (Jvm.Cond.code ({ cls := "FourOnOne$Reader", name := "fresh", desc := "()Ljava/lang/String;" } : Jvm.MethodName) prog_17_method_13_code (2 : Nat) (Option.some (Jvm.ClassFile.FieldType.object "java/lang/String"))) ∈ lw_all := lw_g (lw_at lw_m3 125 rfl) rfl
theorem q772 : (Jvm.Cond.methodLink "FourOnOne$Reader" (100 : Nat) ({ cls := "FourOnOne$Reader", name := "name", desc := "()Ljava/lang/String;" } : Jvm.MethodName)) ∈ lw_all := lw_g (lw_at lw_m3 126 rfl) rfl
theorem q773 : (Jvm.Cond.privateMethod ({ cls := "FourOnOne$Reader", name := "name", desc := "()Ljava/lang/String;" } : Jvm.MethodName)) ∈ lw_tbl := lw_at lw_m3 127 rfl
theorem q774 : (Jvm.Cond.instanceMethod ({ cls := "FourOnOne$Reader", name := "name", desc := "()Ljava/lang/String;" } : Jvm.MethodName)) ∈ lw_all := lw_g (lw_at lw_m3 128 rfl) rfl
theorem q775 : (Jvm.Cond.code ({ cls := "FourOnOne$Reader", name := "name", desc := "()Ljava/lang/String;" } : Jvm.MethodName) prog_17_method_10_code (2 : Nat) (Option.some (Jvm.ClassFile.FieldType.object "java/lang/String"))) ∈ lw_all := lw_g (lw_at lw_m3 129 rfl) rfl
theorem q776 : (Jvm.Cond.fieldLinkNest "FourOnOne$Reader" (78 : Nat) "FourOnOne" "OWN" "[Ljava/lang/String;" "FourOnOne") ∈ lw_tbl := lw_at lw_m3 130 rfl
theorem q778 : (Jvm.Cond.methodLinkNest "FourOnOne$Reader" (82 : Nat) ({ cls := "FourOnOne", name := "find", desc := "(Ljava/lang/String;[Ljava/lang/String;)I" } : Jvm.MethodName) "FourOnOne") ∈ lw_tbl := lw_at lw_m3 132 rfl
theorem q782 : (Jvm.Cond.methodLink "FourOnOne$Reader" (86 : Nat) ({ cls := "java/lang/String", name := "length", desc := "()I" } : Jvm.MethodName)) ∈ lw_all := lw_g (lw_at lw_m3 136 rfl) rfl
theorem q790 : (Jvm.Cond.methodLink "FourOnOne$Reader" (107 : Nat) ({ cls := "FourOnOne$House", name := "isNamed", desc := "(Ljava/lang/String;)Z" } : Jvm.MethodName)) ∈ lw_all := lw_g (lw_at lw_m3 144 rfl) rfl
theorem q820 : (Jvm.Cond.methodLink "FourOnOne$Reader" (164 : Nat) ({ cls := "FourOnOne$Named", name := "<init>", desc := "(Ljava/lang/String;)V" } : Jvm.MethodName)) ∈ lw_all := lw_g (lw_at lw_m3 174 rfl) rfl
theorem q828 : (Jvm.Cond.interfaceEntry "FourOnOne$Reader" (166 : Nat)) ∈ lw_tbl := lw_at lw_m3 182 rfl
theorem q829 : (Jvm.Cond.methodLink "FourOnOne$Reader" (166 : Nat) ({ cls := "java/util/List", name := "add", desc := "(Ljava/lang/Object;)Z" } : Jvm.MethodName)) ∈ lw_all := lw_g (lw_at lw_m3 183 rfl) rfl
theorem q883 : (Jvm.Cond.selects "FourOnOne$Reader" ({ cls := "java/lang/Object", name := "getClass", desc := "()Ljava/lang/Class;" } : Jvm.MethodName) ({ cls := "java/lang/Object", name := "getClass", desc := "()Ljava/lang/Class;" } : Jvm.MethodName)) ∈ lw_all := lw_g (lw_at lw_m3 237 rfl) rfl
theorem q904 : (Jvm.Cond.methodLink "FourOnOne$Reader" (172 : Nat) ({ cls := "FourOnOne$Reader", name := "film", desc := "()V" } : Jvm.MethodName)) ∈ lw_all := lw_g (lw_at lw_m4 18 rfl) rfl
theorem q905 : (Jvm.Cond.privateMethod ({ cls := "FourOnOne$Reader", name := "film", desc := "()V" } : Jvm.MethodName)) ∈ lw_tbl := lw_at lw_m4 19 rfl
theorem q906 : (Jvm.Cond.instanceMethod ({ cls := "FourOnOne$Reader", name := "film", desc := "()V" } : Jvm.MethodName)) ∈ lw_all := lw_g (lw_at lw_m4 20 rfl) rfl
theorem q907 : (Jvm.Cond.code ({ cls := "FourOnOne$Reader", name := "film", desc := "()V" } : Jvm.MethodName) prog_17_method_18_code (5 : Nat) (Option.none : Option Jvm.ClassFile.FieldType)) ∈ lw_all := lw_g (lw_at lw_m4 21 rfl) rfl
theorem q908 : (Jvm.Cond.classLink "FourOnOne$Reader" (205 : Nat) "FourOnOne$Film") ∈ lw_all := lw_g (lw_at lw_m4 22 rfl) rfl
theorem q910 : (Jvm.Cond.stringRef "FourOnOne$Reader" (207 : Nat) "parts") ∈ lw_tbl := lw_at lw_m4 24 rfl
theorem q911 : (Jvm.Cond.methodLink "FourOnOne$Reader" (178 : Nat) ({ cls := "FourOnOne$Reader", name := "number", desc := "(Ljava/lang/String;II)I" } : Jvm.MethodName)) ∈ lw_all := lw_g (lw_at lw_m4 25 rfl) rfl
theorem q912 : (Jvm.Cond.privateMethod ({ cls := "FourOnOne$Reader", name := "number", desc := "(Ljava/lang/String;II)I" } : Jvm.MethodName)) ∈ lw_tbl := lw_at lw_m4 26 rfl
theorem q913 : (Jvm.Cond.instanceMethod ({ cls := "FourOnOne$Reader", name := "number", desc := "(Ljava/lang/String;II)I" } : Jvm.MethodName)) ∈ lw_all := lw_g (lw_at lw_m4 27 rfl) rfl
theorem q914 : (Jvm.Cond.code ({ cls := "FourOnOne$Reader", name := "number", desc := "(Ljava/lang/String;II)I" } : Jvm.MethodName) prog_17_method_12_code (4 : Nat) (Option.some Jvm.ClassFile.FieldType.int)) ∈ lw_all := lw_g (lw_at lw_m4 28 rfl) rfl
theorem q915 : (Jvm.Cond.methodLink "FourOnOne$Reader" (93 : Nat) ({ cls := "FourOnOne$Reader", name := "word", desc := "(Ljava/lang/String;)V" } : Jvm.MethodName)) ∈ lw_all := lw_g (lw_at lw_m4 29 rfl) rfl
theorem q916 : (Jvm.Cond.privateMethod ({ cls := "FourOnOne$Reader", name := "word", desc := "(Ljava/lang/String;)V" } : Jvm.MethodName)) ∈ lw_tbl := lw_at lw_m4 30 rfl
theorem q917 : (Jvm.Cond.instanceMethod ({ cls := "FourOnOne$Reader", name := "word", desc := "(Ljava/lang/String;)V" } : Jvm.MethodName)) ∈ lw_all := lw_g (lw_at lw_m4 31 rfl) rfl
theorem q918 : (Jvm.Cond.code ({ cls := "FourOnOne$Reader", name := "word", desc := "(Ljava/lang/String;)V" } : Jvm.MethodName) prog_17_method_8_code (2 : Nat) (Option.none : Option Jvm.ClassFile.FieldType)) ∈ lw_all := lw_g (lw_at lw_m4 32 rfl) rfl
theorem q919 : (Jvm.Cond.methodLink "FourOnOne$Reader" (96 : Nat) ({ cls := "FourOnOne$Reader", name := "number", desc := "(II)I" } : Jvm.MethodName)) ∈ lw_all := lw_g (lw_at lw_m4 33 rfl) rfl
theorem q920 : (Jvm.Cond.privateMethod ({ cls := "FourOnOne$Reader", name := "number", desc := "(II)I" } : Jvm.MethodName)) ∈ lw_tbl := lw_at lw_m4 34 rfl
theorem q921 : (Jvm.Cond.instanceMethod ({ cls := "FourOnOne$Reader", name := "number", desc := "(II)I" } : Jvm.MethodName)) ∈ lw_all := lw_g (lw_at lw_m4 35 rfl) rfl
theorem q922 : (Jvm.Cond.code ({ cls := "FourOnOne$Reader", name := "number", desc := "(II)I" } : Jvm.MethodName) prog_17_method_11_code (4 : Nat) (Option.some Jvm.ClassFile.FieldType.int)) ∈ lw_all := lw_g (lw_at lw_m4 36 rfl) rfl
theorem q923 : (Jvm.Cond.methodLinkNest "FourOnOne$Reader" (89 : Nat) ({ cls := "FourOnOne", name := "is", desc := "(III)Z" } : Jvm.MethodName) "FourOnOne") ∈ lw_tbl := lw_at lw_m4 37 rfl
theorem q926 : (Jvm.Cond.methodLink "FourOnOne$Reader" (209 : Nat) ({ cls := "FourOnOne$Film", name := "<init>", desc := "(Ljava/lang/String;I)V" } : Jvm.MethodName)) ∈ lw_all := lw_g (lw_at lw_m4 40 rfl) rfl
theorem q935 : (Jvm.Cond.fieldLinkNest "FourOnOne$Reader" (212 : Nat) "FourOnOne$Film" "is" "[I" "FourOnOne") ∈ lw_tbl := lw_at lw_m4 49 rfl
theorem q943 : (Jvm.Cond.stringRef "FourOnOne$Reader" (211 : Nat) "is") ∈ lw_tbl := lw_at lw_m4 57 rfl
theorem q944 : (Jvm.Cond.methodLink "FourOnOne$Reader" (187 : Nat) ({ cls := "FourOnOne$Reader", name := "known", desc := "(Ljava/util/List;)I" } : Jvm.MethodName)) ∈ lw_all := lw_g (lw_at lw_m4 58 rfl) rfl
theorem q945 : (Jvm.Cond.privateMethod ({ cls := "FourOnOne$Reader", name := "known", desc := "(Ljava/util/List;)I" } : Jvm.MethodName)) ∈ lw_tbl := lw_at lw_m4 59 rfl
theorem q946 : (Jvm.Cond.instanceMethod ({ cls := "FourOnOne$Reader", name := "known", desc := "(Ljava/util/List;)I" } : Jvm.MethodName)) ∈ lw_all := lw_g (lw_at lw_m4 60 rfl) rfl
theorem q947 : (Jvm.Cond.code ({ cls := "FourOnOne$Reader", name := "known", desc := "(Ljava/util/List;)I" } : Jvm.MethodName) prog_17_method_14_code (3 : Nat) (Option.some Jvm.ClassFile.FieldType.int)) ∈ lw_all := lw_g (lw_at lw_m4 61 rfl) rfl
theorem q948 : (Jvm.Cond.methodLink "FourOnOne$Reader" (113 : Nat) ({ cls := "FourOnOne$Named", name := "find", desc := "(Ljava/util/List;Ljava/lang/String;)I" } : Jvm.MethodName)) ∈ lw_all := lw_g (lw_at lw_m4 62 rfl) rfl
theorem q949 : (Jvm.Cond.stringRef "FourOnOne$Reader" (177 : Nat) "at") ∈ lw_tbl := lw_at lw_m4 63 rfl
theorem q950 : (Jvm.Cond.classLink "FourOnOne$Reader" (181 : Nat) "FourOnOne$Person") ∈ lw_all := lw_g (lw_at lw_m4 64 rfl) rfl
theorem q952 : (Jvm.Cond.stringRef "FourOnOne$Reader" (183 : Nat) "to") ∈ lw_tbl := lw_at lw_m4 66 rfl
theorem q953 : (Jvm.Cond.methodLink "FourOnOne$Reader" (184 : Nat) ({ cls := "FourOnOne$Person", name := "<init>", desc := "(Ljava/lang/String;II)V" } : Jvm.MethodName)) ∈ lw_all := lw_g (lw_at lw_m4 67 rfl) rfl
theorem q962 : (Jvm.Cond.fieldLinkNest "FourOnOne$Reader" (195 : Nat) "FourOnOne$Person" "likes" "[I" "FourOnOne") ∈ lw_tbl := lw_at lw_m4 76 rfl
theorem q972 : (Jvm.Cond.interfaceEntry "FourOnOne$Reader" (191 : Nat)) ∈ lw_tbl := lw_at lw_m4 86 rfl
theorem q973 : (Jvm.Cond.methodLink "FourOnOne$Reader" (191 : Nat) ({ cls := "java/util/List", name := "get", desc := "(I)Ljava/lang/Object;" } : Jvm.MethodName)) ∈ lw_all := lw_g (lw_at lw_m4 87 rfl) rfl
theorem q974 : (Jvm.Cond.methodLinkNest "FourOnOne$Reader" (201 : Nat) ({ cls := "FourOnOne", name := "has", desc := "(II)Z" } : Jvm.MethodName) "FourOnOne") ∈ lw_tbl := lw_at lw_m4 88 rfl
theorem q977 : (Jvm.Cond.methodLink "FourOnOne$Reader" (133 : Nat) ({ cls := "FourOnOne$Reader", name := "more", desc := "(Ljava/lang/String;I)V" } : Jvm.MethodName)) ∈ lw_all := lw_g (lw_at lw_m4 91 rfl) rfl
theorem q978 : (Jvm.Cond.privateMethod ({ cls := "FourOnOne$Reader", name := "more", desc := "(Ljava/lang/String;I)V" } : Jvm.MethodName)) ∈ lw_tbl := lw_at lw_m4 92 rfl
theorem q979 : (Jvm.Cond.instanceMethod ({ cls := "FourOnOne$Reader", name := "more", desc := "(Ljava/lang/String;I)V" } : Jvm.MethodName)) ∈ lw_all := lw_g (lw_at lw_m4 93 rfl) rfl
theorem q980 : (Jvm.Cond.code ({ cls := "FourOnOne$Reader", name := "more", desc := "(Ljava/lang/String;I)V" } : Jvm.MethodName) prog_17_method_20_code (5 : Nat) (Option.none : Option Jvm.ClassFile.FieldType)) ∈ lw_all := lw_g (lw_at lw_m4 94 rfl) rfl
theorem q981 : (Jvm.Cond.stringRef "FourOnOne$Reader" (221 : Nat) "learns") ∈ lw_tbl := lw_at lw_m4 95 rfl
theorem q982 : (Jvm.Cond.stringRef "FourOnOne$Reader" (223 : Nat) "fades") ∈ lw_tbl := lw_at lw_m4 96 rfl
theorem q983 : (Jvm.Cond.stringRef "FourOnOne$Reader" (225 : Nat) "may") ∈ lw_tbl := lw_at lw_m4 97 rfl
theorem q984 : (Jvm.Cond.stringRef "FourOnOne$Reader" (227 : Nat) "screens") ∈ lw_tbl := lw_at lw_m4 98 rfl
theorem q985 : (Jvm.Cond.stringRef "FourOnOne$Reader" (229 : Nat) "price") ∈ lw_tbl := lw_at lw_m4 99 rfl
theorem q986 : (Jvm.Cond.stringRef "FourOnOne$Reader" (231 : Nat) "bother") ∈ lw_tbl := lw_at lw_m4 100 rfl
theorem q987 : (Jvm.Cond.stringRef "FourOnOne$Reader" (233 : Nat) "strange") ∈ lw_tbl := lw_at lw_m4 101 rfl
theorem q988 : (Jvm.Cond.methodLink "FourOnOne$Reader" (238 : Nat) ({ cls := "FourOnOne$Reader", name := "once", desc := "(LFourOnOne$Value;II)LFourOnOne$Value;" } : Jvm.MethodName)) ∈ lw_all := lw_g (lw_at lw_m4 102 rfl) rfl
theorem q989 : (Jvm.Cond.privateMethod ({ cls := "FourOnOne$Reader", name := "once", desc := "(LFourOnOne$Value;II)LFourOnOne$Value;" } : Jvm.MethodName)) ∈ lw_tbl := lw_at lw_m4 103 rfl
theorem q990 : (Jvm.Cond.instanceMethod ({ cls := "FourOnOne$Reader", name := "once", desc := "(LFourOnOne$Value;II)LFourOnOne$Value;" } : Jvm.MethodName)) ∈ lw_all := lw_g (lw_at lw_m4 104 rfl) rfl
theorem q991 : (Jvm.Cond.code ({ cls := "FourOnOne$Reader", name := "once", desc := "(LFourOnOne$Value;II)LFourOnOne$Value;" } : Jvm.MethodName) prog_17_method_19_code (4 : Nat) (Option.some (Jvm.ClassFile.FieldType.object "FourOnOne$Value"))) ∈ lw_all := lw_g (lw_at lw_m4 105 rfl) rfl
theorem q992 : (Jvm.Cond.methodLink "FourOnOne$Reader" (217 : Nat) ({ cls := "FourOnOne$Reader", name := "sum", desc := "()LFourOnOne$Value;" } : Jvm.MethodName)) ∈ lw_all := lw_g (lw_at lw_m4 106 rfl) rfl
theorem q993 : (Jvm.Cond.privateMethod ({ cls := "FourOnOne$Reader", name := "sum", desc := "()LFourOnOne$Value;" } : Jvm.MethodName)) ∈ lw_tbl := lw_at lw_m4 107 rfl
theorem q994 : (Jvm.Cond.instanceMethod ({ cls := "FourOnOne$Reader", name := "sum", desc := "()LFourOnOne$Value;" } : Jvm.MethodName)) ∈ lw_all := lw_g (lw_at lw_m4 108 rfl) rfl
theorem q995 : (Jvm.Cond.code ({ cls := "FourOnOne$Reader", name := "sum", desc := "()LFourOnOne$Value;" } : Jvm.MethodName) prog_17_method_22_code (3 : Nat) (Option.some (Jvm.ClassFile.FieldType.object "FourOnOne$Value"))) ∈ lw_all := lw_g (lw_at lw_m4 109 rfl) rfl
theorem q996 : (Jvm.Cond.classLink "FourOnOne$Reader" (259 : Nat) "FourOnOne$Chain") ∈ lw_all := lw_g (lw_at lw_m4 110 rfl) rfl
theorem q998 : (Jvm.Cond.methodLinkNest "FourOnOne$Reader" (261 : Nat) ({ cls := "FourOnOne$Chain", name := "<init>", desc := "()V" } : Jvm.MethodName) "FourOnOne") ∈ lw_tbl := lw_at lw_m4 112 rfl
theorem q1037 : (Jvm.Cond.methodLink "FourOnOne$Reader" (262 : Nat) ({ cls := "FourOnOne$Reader", name := "product", desc := "()LFourOnOne$Value;" } : Jvm.MethodName)) ∈ lw_all := lw_g (lw_at lw_m4 151 rfl) rfl
theorem q1038 : (Jvm.Cond.privateMethod ({ cls := "FourOnOne$Reader", name := "product", desc := "()LFourOnOne$Value;" } : Jvm.MethodName)) ∈ lw_tbl := lw_at lw_m4 152 rfl
theorem q1039 : (Jvm.Cond.instanceMethod ({ cls := "FourOnOne$Reader", name := "product", desc := "()LFourOnOne$Value;" } : Jvm.MethodName)) ∈ lw_all := lw_g (lw_at lw_m4 153 rfl) rfl
theorem q1040 : (Jvm.Cond.code ({ cls := "FourOnOne$Reader", name := "product", desc := "()LFourOnOne$Value;" } : Jvm.MethodName) prog_17_method_23_code (3 : Nat) (Option.some (Jvm.ClassFile.FieldType.object "FourOnOne$Value"))) ∈ lw_all := lw_g (lw_at lw_m4 154 rfl) rfl
theorem q1041 : (Jvm.Cond.methodLink "FourOnOne$Reader" (271 : Nat) ({ cls := "FourOnOne$Reader", name := "atom", desc := "()LFourOnOne$Value;" } : Jvm.MethodName)) ∈ lw_all := lw_g (lw_at lw_m4 155 rfl) rfl
theorem q1042 : (Jvm.Cond.privateMethod ({ cls := "FourOnOne$Reader", name := "atom", desc := "()LFourOnOne$Value;" } : Jvm.MethodName)) ∈ lw_tbl := lw_at lw_m4 156 rfl
theorem q1043 : (Jvm.Cond.instanceMethod ({ cls := "FourOnOne$Reader", name := "atom", desc := "()LFourOnOne$Value;" } : Jvm.MethodName)) ∈ lw_all := lw_g (lw_at lw_m4 157 rfl) rfl
theorem q1044 : (Jvm.Cond.code ({ cls := "FourOnOne$Reader", name := "atom", desc := "()LFourOnOne$Value;" } : Jvm.MethodName) prog_17_method_26_code (3 : Nat) (Option.some (Jvm.ClassFile.FieldType.object "FourOnOne$Value"))) ∈ lw_all := lw_g (lw_at lw_m4 158 rfl) rfl
theorem q1045 : (Jvm.Cond.methodLink "FourOnOne$Reader" (282 : Nat) ({ cls := "FourOnOne$Reader", name := "within", desc := "(I)LFourOnOne$Value;" } : Jvm.MethodName)) ∈ lw_all := lw_g (lw_at lw_m4 159 rfl) rfl
theorem q1046 : (Jvm.Cond.privateMethod ({ cls := "FourOnOne$Reader", name := "within", desc := "(I)LFourOnOne$Value;" } : Jvm.MethodName)) ∈ lw_tbl := lw_at lw_m4 160 rfl
theorem q1047 : (Jvm.Cond.instanceMethod ({ cls := "FourOnOne$Reader", name := "within", desc := "(I)LFourOnOne$Value;" } : Jvm.MethodName)) ∈ lw_all := lw_g (lw_at lw_m4 161 rfl) rfl
theorem q1048 : (Jvm.Cond.code ({ cls := "FourOnOne$Reader", name := "within", desc := "(I)LFourOnOne$Value;" } : Jvm.MethodName) prog_17_method_25_code (4 : Nat) (Option.some (Jvm.ClassFile.FieldType.object "FourOnOne$Value"))) ∈ lw_all := lw_g (lw_at lw_m4 162 rfl) rfl
theorem q1049 : (Jvm.Cond.methodLink "FourOnOne$Reader" (274 : Nat) ({ cls := "FourOnOne$Reader", name := "opens", desc := "(I)V" } : Jvm.MethodName)) ∈ lw_all := lw_g (lw_at lw_m4 163 rfl) rfl
theorem q1050 : (Jvm.Cond.privateMethod ({ cls := "FourOnOne$Reader", name := "opens", desc := "(I)V" } : Jvm.MethodName)) ∈ lw_tbl := lw_at lw_m4 164 rfl
theorem q1051 : (Jvm.Cond.instanceMethod ({ cls := "FourOnOne$Reader", name := "opens", desc := "(I)V" } : Jvm.MethodName)) ∈ lw_all := lw_g (lw_at lw_m4 165 rfl) rfl
theorem q1052 : (Jvm.Cond.code ({ cls := "FourOnOne$Reader", name := "opens", desc := "(I)V" } : Jvm.MethodName) prog_17_method_24_code (2 : Nat) (Option.none : Option Jvm.ClassFile.FieldType)) ∈ lw_all := lw_g (lw_at lw_m4 166 rfl) rfl
theorem q1053 : (Jvm.Cond.methodLink "FourOnOne$Reader" (137 : Nat) ({ cls := "FourOnOne$Reader", name := "must", desc := "(I)V" } : Jvm.MethodName)) ∈ lw_all := lw_g (lw_at lw_m4 167 rfl) rfl
theorem q1054 : (Jvm.Cond.privateMethod ({ cls := "FourOnOne$Reader", name := "must", desc := "(I)V" } : Jvm.MethodName)) ∈ lw_tbl := lw_at lw_m4 168 rfl
theorem q1055 : (Jvm.Cond.instanceMethod ({ cls := "FourOnOne$Reader", name := "must", desc := "(I)V" } : Jvm.MethodName)) ∈ lw_all := lw_g (lw_at lw_m4 169 rfl) rfl
theorem q1056 : (Jvm.Cond.code ({ cls := "FourOnOne$Reader", name := "must", desc := "(I)V" } : Jvm.MethodName) prog_17_method_5_code (2 : Nat) (Option.none : Option Jvm.ClassFile.FieldType)) ∈ lw_all := lw_g (lw_at lw_m4 170 rfl) rfl
theorem q1057 : (Jvm.Cond.classLink "FourOnOne$Reader" (277 : Nat) "FourOnOne$Pair") ∈ lw_all := lw_g (lw_at lw_m4 171 rfl) rfl
theorem q1059 : (Jvm.Cond.methodLink "FourOnOne$Reader" (279 : Nat) ({ cls := "FourOnOne$Pair", name := "<init>", desc := "(ZLFourOnOne$Value;LFourOnOne$Value;)V" } : Jvm.MethodName)) ∈ lw_all := lw_g (lw_at lw_m4 173 rfl) rfl
theorem q1073 : (Jvm.Cond.classLink "FourOnOne$Reader" (286 : Nat) "FourOnOne$Fixed") ∈ lw_all := lw_g (lw_at lw_m4 187 rfl) rfl
theorem q1075 : (Jvm.Cond.methodLink "FourOnOne$Reader" (288 : Nat) ({ cls := "FourOnOne$Fixed", name := "<init>", desc := "(J)V" } : Jvm.MethodName)) ∈ lw_all := lw_g (lw_at lw_m4 189 rfl) rfl
theorem q1083 : (Jvm.Cond.fieldLinkNest "FourOnOne$Reader" (291 : Nat) "FourOnOne" "ASKED" "[Ljava/lang/String;" "FourOnOne") ∈ lw_tbl := lw_at lw_m4 197 rfl
theorem q1085 : (Jvm.Cond.classLink "FourOnOne$Reader" (294 : Nat) "FourOnOne$Asked") ∈ lw_all := lw_g (lw_at lw_m4 199 rfl) rfl
theorem q1087 : (Jvm.Cond.methodLink "FourOnOne$Reader" (296 : Nat) ({ cls := "FourOnOne$Asked", name := "<init>", desc := "(I)V" } : Jvm.MethodName)) ∈ lw_all := lw_g (lw_at lw_m4 201 rfl) rfl
theorem q1095 : (Jvm.Cond.fieldLinkNest "FourOnOne$Reader" (298 : Nat) "FourOnOne" "LOOKED" "[Ljava/lang/String;" "FourOnOne") ∈ lw_tbl := lw_at lw_m4 209 rfl
theorem q1097 : (Jvm.Cond.methodLink "FourOnOne$Reader" (301 : Nat) ({ cls := "FourOnOne$Reader", name := "looked", desc := "(I)LFourOnOne$Value;" } : Jvm.MethodName)) ∈ lw_all := lw_g (lw_at lw_m4 211 rfl) rfl
theorem q1098 : (Jvm.Cond.privateMethod ({ cls := "FourOnOne$Reader", name := "looked", desc := "(I)LFourOnOne$Value;" } : Jvm.MethodName)) ∈ lw_tbl := lw_at lw_m4 212 rfl
theorem q1099 : (Jvm.Cond.instanceMethod ({ cls := "FourOnOne$Reader", name := "looked", desc := "(I)LFourOnOne$Value;" } : Jvm.MethodName)) ∈ lw_all := lw_g (lw_at lw_m4 213 rfl) rfl
theorem q1100 : (Jvm.Cond.code ({ cls := "FourOnOne$Reader", name := "looked", desc := "(I)LFourOnOne$Value;" } : Jvm.MethodName) prog_17_method_30_code (3 : Nat) (Option.some (Jvm.ClassFile.FieldType.object "FourOnOne$Value"))) ∈ lw_all := lw_g (lw_at lw_m4 214 rfl) rfl
theorem q1101 : (Jvm.Cond.classLink "FourOnOne$Reader" (346 : Nat) "FourOnOne$Looked") ∈ lw_all := lw_g (lw_at lw_m4 215 rfl) rfl
theorem q1103 : (Jvm.Cond.methodLink "FourOnOne$Reader" (348 : Nat) ({ cls := "FourOnOne$Looked", name := "<init>", desc := "(LFourOnOne;ILFourOnOne$Value;)V" } : Jvm.MethodName)) ∈ lw_all := lw_g (lw_at lw_m4 217 rfl) rfl
theorem q1117 : (Jvm.Cond.stringRef "FourOnOne$Reader" (304 : Nat) "min") ∈ lw_tbl := lw_at lw_m4 231 rfl
theorem q1118 : (Jvm.Cond.stringRef "FourOnOne$Reader" (306 : Nat) "max") ∈ lw_tbl := lw_at lw_m4 232 rfl
theorem q1119 : (Jvm.Cond.methodLink "FourOnOne$Reader" (265 : Nat) ({ cls := "FourOnOne$Chain", name := "add", desc := "(CLFourOnOne$Value;)V" } : Jvm.MethodName)) ∈ lw_all := lw_g (lw_at lw_m4 233 rfl) rfl
theorem q1180 : (Jvm.Cond.methodLink "FourOnOne$Reader" (268 : Nat) ({ cls := "FourOnOne$Reader", name := "takes", desc := "(I)Z" } : Jvm.MethodName)) ∈ lw_all := lw_g (lw_at lw_m5 54 rfl) rfl
theorem q1181 : (Jvm.Cond.privateMethod ({ cls := "FourOnOne$Reader", name := "takes", desc := "(I)Z" } : Jvm.MethodName)) ∈ lw_tbl := lw_at lw_m5 55 rfl
theorem q1182 : (Jvm.Cond.instanceMethod ({ cls := "FourOnOne$Reader", name := "takes", desc := "(I)Z" } : Jvm.MethodName)) ∈ lw_all := lw_g (lw_at lw_m5 56 rfl) rfl
theorem q1183 : (Jvm.Cond.code ({ cls := "FourOnOne$Reader", name := "takes", desc := "(I)Z" } : Jvm.MethodName) prog_17_method_21_code (3 : Nat) (Option.some Jvm.ClassFile.FieldType.boolean)) ∈ lw_all := lw_g (lw_at lw_m5 57 rfl) rfl
theorem q1184 : (Jvm.Cond.methodLink "FourOnOne$Reader" (247 : Nat) ({ cls := "FourOnOne$Reader", name := "test", desc := "()LFourOnOne$Test;" } : Jvm.MethodName)) ∈ lw_all := lw_g (lw_at lw_m5 58 rfl) rfl
theorem q1185 : (Jvm.Cond.privateMethod ({ cls := "FourOnOne$Reader", name := "test", desc := "()LFourOnOne$Test;" } : Jvm.MethodName)) ∈ lw_tbl := lw_at lw_m5 59 rfl
theorem q1186 : (Jvm.Cond.instanceMethod ({ cls := "FourOnOne$Reader", name := "test", desc := "()LFourOnOne$Test;" } : Jvm.MethodName)) ∈ lw_all := lw_g (lw_at lw_m5 60 rfl) rfl
theorem q1187 : (Jvm.Cond.code ({ cls := "FourOnOne$Reader", name := "test", desc := "()LFourOnOne$Test;" } : Jvm.MethodName) prog_17_method_27_code (2 : Nat) (Option.some (Jvm.ClassFile.FieldType.object "FourOnOne$Test"))) ∈ lw_all := lw_g (lw_at lw_m5 61 rfl) rfl
theorem q1188 : (Jvm.Cond.classLink "FourOnOne$Reader" (308 : Nat) "FourOnOne$Facts") ∈ lw_all := lw_g (lw_at lw_m5 62 rfl) rfl
theorem q1190 : (Jvm.Cond.methodLink "FourOnOne$Reader" (310 : Nat) ({ cls := "FourOnOne$Facts", name := "<init>", desc := "(Z)V" } : Jvm.MethodName)) ∈ lw_all := lw_g (lw_at lw_m5 64 rfl) rfl
theorem q1200 : (Jvm.Cond.fieldLinkNest "FourOnOne$Reader" (313 : Nat) "FourOnOne$Facts" "tests" "Ljava/util/List;" "FourOnOne") ∈ lw_tbl := lw_at lw_m5 74 rfl
theorem q1207 : (Jvm.Cond.methodLink "FourOnOne$Reader" (316 : Nat) ({ cls := "FourOnOne$Reader", name := "both", desc := "()LFourOnOne$Test;" } : Jvm.MethodName)) ∈ lw_all := lw_g (lw_at lw_m5 81 rfl) rfl
theorem q1208 : (Jvm.Cond.privateMethod ({ cls := "FourOnOne$Reader", name := "both", desc := "()LFourOnOne$Test;" } : Jvm.MethodName)) ∈ lw_tbl := lw_at lw_m5 82 rfl
theorem q1209 : (Jvm.Cond.instanceMethod ({ cls := "FourOnOne$Reader", name := "both", desc := "()LFourOnOne$Test;" } : Jvm.MethodName)) ∈ lw_all := lw_g (lw_at lw_m5 83 rfl) rfl
theorem q1210 : (Jvm.Cond.code ({ cls := "FourOnOne$Reader", name := "both", desc := "()LFourOnOne$Test;" } : Jvm.MethodName) prog_17_method_28_code (2 : Nat) (Option.some (Jvm.ClassFile.FieldType.object "FourOnOne$Test"))) ∈ lw_all := lw_g (lw_at lw_m5 84 rfl) rfl
theorem q1211 : (Jvm.Cond.methodLink "FourOnOne$Reader" (324 : Nat) ({ cls := "FourOnOne$Reader", name := "fact", desc := "()LFourOnOne$Test;" } : Jvm.MethodName)) ∈ lw_all := lw_g (lw_at lw_m5 85 rfl) rfl
theorem q1212 : (Jvm.Cond.privateMethod ({ cls := "FourOnOne$Reader", name := "fact", desc := "()LFourOnOne$Test;" } : Jvm.MethodName)) ∈ lw_tbl := lw_at lw_m5 86 rfl
theorem q1213 : (Jvm.Cond.instanceMethod ({ cls := "FourOnOne$Reader", name := "fact", desc := "()LFourOnOne$Test;" } : Jvm.MethodName)) ∈ lw_all := lw_g (lw_at lw_m5 87 rfl) rfl
theorem q1214 : (Jvm.Cond.code ({ cls := "FourOnOne$Reader", name := "fact", desc := "()LFourOnOne$Test;" } : Jvm.MethodName) prog_17_method_29_code (3 : Nat) (Option.some (Jvm.ClassFile.FieldType.object "FourOnOne$Test"))) ∈ lw_all := lw_g (lw_at lw_m5 88 rfl) rfl
theorem q1215 : (Jvm.Cond.stringRef "FourOnOne$Reader" (329 : Nat) "not") ∈ lw_tbl := lw_at lw_m5 89 rfl
theorem q1216 : (Jvm.Cond.methodLink "FourOnOne$Reader" (321 : Nat) ({ cls := "FourOnOne$Reader", name := "passes", desc := "(Ljava/lang/String;)Z" } : Jvm.MethodName)) ∈ lw_all := lw_g (lw_at lw_m5 90 rfl) rfl
theorem q1217 : (Jvm.Cond.privateMethod ({ cls := "FourOnOne$Reader", name := "passes", desc := "(Ljava/lang/String;)Z" } : Jvm.MethodName)) ∈ lw_tbl := lw_at lw_m5 91 rfl
theorem q1218 : (Jvm.Cond.instanceMethod ({ cls := "FourOnOne$Reader", name := "passes", desc := "(Ljava/lang/String;)Z" } : Jvm.MethodName)) ∈ lw_all := lw_g (lw_at lw_m5 92 rfl) rfl
theorem q1219 : (Jvm.Cond.code ({ cls := "FourOnOne$Reader", name := "passes", desc := "(Ljava/lang/String;)Z" } : Jvm.MethodName) prog_17_method_9_code (3 : Nat) (Option.some Jvm.ClassFile.FieldType.boolean)) ∈ lw_all := lw_g (lw_at lw_m5 93 rfl) rfl
theorem q1220 : (Jvm.Cond.classLink "FourOnOne$Reader" (331 : Nat) "FourOnOne$Not") ∈ lw_all := lw_g (lw_at lw_m5 94 rfl) rfl
theorem q1222 : (Jvm.Cond.methodLink "FourOnOne$Reader" (333 : Nat) ({ cls := "FourOnOne$Not", name := "<init>", desc := "(LFourOnOne$Test;)V" } : Jvm.MethodName)) ∈ lw_all := lw_g (lw_at lw_m5 96 rfl) rfl
theorem q1230 : (Jvm.Cond.stringRef "FourOnOne$Reader" (336 : Nat) "all") ∈ lw_tbl := lw_at lw_m5 104 rfl
theorem q1231 : (Jvm.Cond.classLink "FourOnOne$Reader" (338 : Nat) "FourOnOne$All") ∈ lw_all := lw_g (lw_at lw_m5 105 rfl) rfl
theorem q1233 : (Jvm.Cond.methodLinkNest "FourOnOne$Reader" (340 : Nat) ({ cls := "FourOnOne$All", name := "<init>", desc := "()V" } : Jvm.MethodName) "FourOnOne") ∈ lw_tbl := lw_at lw_m5 107 rfl
theorem q1238 : (Jvm.Cond.classLink "FourOnOne$Reader" (341 : Nat) "FourOnOne$Than") ∈ lw_all := lw_g (lw_at lw_m5 112 rfl) rfl
theorem q1240 : (Jvm.Cond.methodLink "FourOnOne$Reader" (343 : Nat) ({ cls := "FourOnOne$Than", name := "<init>", desc := "(LFourOnOne$Value;ILFourOnOne$Value;)V" } : Jvm.MethodName)) ∈ lw_all := lw_g (lw_at lw_m5 114 rfl) rfl
theorem q1254 : (Jvm.Cond.stringRef "FourOnOne$Reader" (327 : Nat) "and") ∈ lw_tbl := lw_at lw_m5 128 rfl
theorem q1255 : (Jvm.Cond.stringRef "FourOnOne$Reader" (319 : Nat) "or") ∈ lw_tbl := lw_at lw_m5 129 rfl
theorem q1650 : (Jvm.Cond.instanceMethod ({ cls := "FourOnOne$Reader", name := "question", desc := "(I)LFourOnOne$Question;" } : Jvm.MethodName)) ∈ lw_all := lw_g (lw_at lw_m7 44 rfl) rfl
theorem q1651 : (Jvm.Cond.selects "FourOnOne$Reader" ({ cls := "FourOnOne$Reader", name := "question", desc := "(I)LFourOnOne$Question;" } : Jvm.MethodName) ({ cls := "FourOnOne$Reader", name := "question", desc := "(I)LFourOnOne$Question;" } : Jvm.MethodName)) ∈ lw_all := lw_g (lw_at lw_m7 45 rfl) rfl
theorem q1652 : (Jvm.Cond.code ({ cls := "FourOnOne$Reader", name := "question", desc := "(I)LFourOnOne$Question;" } : Jvm.MethodName) prog_17_method_31_code (4 : Nat) (Option.some (Jvm.ClassFile.FieldType.object "FourOnOne$Question"))) ∈ lw_all := lw_g (lw_at lw_m7 46 rfl) rfl
theorem q1653 : (Jvm.Cond.fieldLinkNest "FourOnOne$Reader" (351 : Nat) "FourOnOne" "TOLD_OF" "[Ljava/lang/String;" "FourOnOne") ∈ lw_tbl := lw_at lw_m7 47 rfl
theorem q1655 : (Jvm.Cond.classLink "FourOnOne$Reader" (354 : Nat) "FourOnOne$Question") ∈ lw_all := lw_g (lw_at lw_m7 49 rfl) rfl
theorem q1657 : (Jvm.Cond.methodLink "FourOnOne$Reader" (356 : Nat) ({ cls := "FourOnOne$Question", name := "<init>", desc := "(ILFourOnOne$Test;LFourOnOne$Value;)V" } : Jvm.MethodName)) ∈ lw_all := lw_g (lw_at lw_m7 51 rfl) rfl
theorem q2651 : (Jvm.Cond.castable "FourOnOne$Reader" "java/lang/Object") ∈ lw_tbl := lw_at lw_m11 85 rfl
theorem in_X2 : ∀ w ∈ wsX20, w ∈ lw_all := lw_in wsX20 [390, 392, 394, 396, 398, 400, 402, 404] (by decide +kernel) (by decide +kernel)

/-! FourOnOne$State -/
set_option maxRecDepth 100000
def RX5 : String := "FourOnOne$State"
def TX5 : u_T := fun k => match k with
  | 0 => ("FourOnOne$State", "hour", "I", false)
  | 1 => ("FourOnOne$State", "presses", "I", false)
  | 2 => ("FourOnOne$State", "keeps", "I", false)
  | 3 => ("FourOnOne$State", "taste", "[[I", true)
  | 4 => ("FourOnOne$State", "seen", "[[I", true)
  | 5 => ("FourOnOne$State", "saw", "[I", true)
  | 6 => ("FourOnOne$State", "rows", "[[I", true)
  | 7 => ("FourOnOne$State", "pleased", "[J", true)
  | 8 => ("FourOnOne$State", "refused", "[I", true)
  | 9 => ("FourOnOne$State", "seenNow", "I", false)
  | _ => ("FourOnOne$State", "this$0", "LFourOnOne;", true)
def tyX5 : Nat → FieldType := fun k => match k with
  | 0 => .int
  | 1 => .int
  | 2 => .int
  | 3 => .array (.array .int)
  | 4 => .array (.array .int)
  | 5 => .array .int
  | 6 => .array (.array .int)
  | 7 => .array .long
  | 8 => .array .int
  | 9 => .int
  | _ => .object "FourOnOne"
abbrev wsX50 : List Cond := u_ws RX5 TX5 11
theorem nmX5 : ∀ a, a < 11 → ∀ b, b < 11 → a ≠ b → (TX5 a).2.1 ≠ (TX5 b).2.1 := by decide +kernel
theorem tyX5_ok : ∀ k, k < 11 → parseFieldDescriptor (TX5 k).2.2.1 = some (tyX5 k) := by decide +kernel
abbrev cX5_init : ByteArray := prog_18_method_1_code
def yX5_init : MethodName := ⟨RX5, "<init>", "(LFourOnOne;)V"⟩
def dkwX5_init_2 : List UInt8 := [181, 0, 27, 42, 8, 188, 11, 181, 0, 30, 42, 8, 188, 10, 181, 0, 34, 177]
abbrev dktX5_init_2 : List UInt8 := dkwX5_init_2 ++ []
def dkwX5_init_1 : List UInt8 := [16, 8, 197, 0, 15, 2, 181, 0, 20, 42, 8, 188, 10, 181, 0, 23, 42, 16, 40, 7, 197, 0, 15, 2]
abbrev dktX5_init_1 : List UInt8 := dkwX5_init_1 ++ dktX5_init_2
def dkwX5_init_0 : List UInt8 := [42, 43, 181, 0, 3, 42, 183, 0, 9, 42, 16, 6, 16, 6, 197, 0, 15, 2, 181, 0, 17, 42, 16, 6]
abbrev dktX5_init_0 : List UInt8 := dkwX5_init_0 ++ dktX5_init_1
theorem dksX5_init_0 : cX5_init.data.toList.drop 0 = dktX5_init_0 := by decide +kernel
theorem dksX5_init_1 : cX5_init.data.toList.drop 24 = dktX5_init_1 := dk_seg dksX5_init_0 24 rfl rfl
theorem dksX5_init_2 : cX5_init.data.toList.drop 48 = dktX5_init_2 := dk_seg dksX5_init_1 24 rfl rfl
theorem dX5_init_0 : decode cX5_init 0 = .ok (.aload_n 0, 1) := dk_42 (dk_at dksX5_init_0 0 rfl rfl)
theorem dX5_init_1 : decode cX5_init 1 = .ok (.aload_n 1, 1) := dk_43 (dk_at dksX5_init_0 1 rfl rfl)
theorem dX5_init_2 : decode cX5_init 2 = .ok (.putfield 3, 3) := dk_181 0 3 (dk_at dksX5_init_0 2 rfl rfl)
theorem dX5_init_5 : decode cX5_init 5 = .ok (.aload_n 0, 1) := dk_42 (dk_at dksX5_init_0 5 rfl rfl)
theorem dX5_init_6 : decode cX5_init 6 = .ok (.invokespecial 9, 3) := dk_183 0 9 (dk_at dksX5_init_0 6 rfl rfl)
theorem dX5_init_9 : decode cX5_init 9 = .ok (.aload_n 0, 1) := dk_42 (dk_at dksX5_init_0 9 rfl rfl)
theorem dX5_init_10 : decode cX5_init 10 = .ok (.bipush 6, 2) := dk_16 6 (dk_at dksX5_init_0 10 rfl rfl)
theorem dX5_init_12 : decode cX5_init 12 = .ok (.bipush 6, 2) := dk_16 6 (dk_at dksX5_init_0 12 rfl rfl)
theorem dX5_init_14 : decode cX5_init 14 = .ok (.multianewarray 15 2, 4) := by decide +kernel
theorem dX5_init_18 : decode cX5_init 18 = .ok (.putfield 17, 3) := dk_181 0 17 (dk_at dksX5_init_0 18 rfl rfl)
theorem dX5_init_21 : decode cX5_init 21 = .ok (.aload_n 0, 1) := dk_42 (dk_at dksX5_init_0 21 rfl rfl)
theorem dX5_init_22 : decode cX5_init 22 = .ok (.bipush 6, 2) := dk_16 6 (dk_at dksX5_init_0 22 rfl rfl)
theorem dX5_init_24 : decode cX5_init 24 = .ok (.bipush 8, 2) := dk_16 8 (dk_at dksX5_init_1 0 rfl rfl)
theorem dX5_init_26 : decode cX5_init 26 = .ok (.multianewarray 15 2, 4) := by decide +kernel
theorem dX5_init_30 : decode cX5_init 30 = .ok (.putfield 20, 3) := dk_181 0 20 (dk_at dksX5_init_1 6 rfl rfl)
theorem dX5_init_33 : decode cX5_init 33 = .ok (.aload_n 0, 1) := dk_42 (dk_at dksX5_init_1 9 rfl rfl)
theorem dX5_init_34 : decode cX5_init 34 = .ok (.iconst 5, 1) := dk_8 (dk_at dksX5_init_1 10 rfl rfl)
theorem dX5_init_35 : decode cX5_init 35 = .ok (.newarray .int, 2) := dk_188_10 (dk_at dksX5_init_1 11 rfl rfl)
theorem dX5_init_37 : decode cX5_init 37 = .ok (.putfield 23, 3) := dk_181 0 23 (dk_at dksX5_init_1 13 rfl rfl)
theorem dX5_init_40 : decode cX5_init 40 = .ok (.aload_n 0, 1) := dk_42 (dk_at dksX5_init_1 16 rfl rfl)
theorem dX5_init_41 : decode cX5_init 41 = .ok (.bipush 40, 2) := dk_16 40 (dk_at dksX5_init_1 17 rfl rfl)
theorem dX5_init_43 : decode cX5_init 43 = .ok (.iconst 4, 1) := dk_7 (dk_at dksX5_init_1 19 rfl rfl)
theorem dX5_init_44 : decode cX5_init 44 = .ok (.multianewarray 15 2, 4) := by decide +kernel
theorem dX5_init_48 : decode cX5_init 48 = .ok (.putfield 27, 3) := dk_181 0 27 (dk_at dksX5_init_2 0 rfl rfl)
theorem dX5_init_51 : decode cX5_init 51 = .ok (.aload_n 0, 1) := dk_42 (dk_at dksX5_init_2 3 rfl rfl)
theorem dX5_init_52 : decode cX5_init 52 = .ok (.iconst 5, 1) := dk_8 (dk_at dksX5_init_2 4 rfl rfl)
theorem dX5_init_53 : decode cX5_init 53 = .ok (.newarray .long, 2) := dk_188_11 (dk_at dksX5_init_2 5 rfl rfl)
theorem dX5_init_55 : decode cX5_init 55 = .ok (.putfield 30, 3) := dk_181 0 30 (dk_at dksX5_init_2 7 rfl rfl)
theorem dX5_init_58 : decode cX5_init 58 = .ok (.aload_n 0, 1) := dk_42 (dk_at dksX5_init_2 10 rfl rfl)
theorem dX5_init_59 : decode cX5_init 59 = .ok (.iconst 5, 1) := dk_8 (dk_at dksX5_init_2 11 rfl rfl)
theorem dX5_init_60 : decode cX5_init 60 = .ok (.newarray .int, 2) := dk_188_10 (dk_at dksX5_init_2 12 rfl rfl)
theorem dX5_init_62 : decode cX5_init 62 = .ok (.putfield 34, 3) := dk_181 0 34 (dk_at dksX5_init_2 14 rfl rfl)
theorem dX5_init_65 : decode cX5_init 65 = .ok (.return_, 1) := dk_177 (dk_at dksX5_init_2 17 rfl rfl)
abbrev cX5_begins : ByteArray := prog_18_method_2_code
def yX5_begins : MethodName := ⟨RX5, "begins", "()V"⟩
def dkwX5_begins_4 : List UInt8 := [3, 79, 132, 1, 1, 167, 255, 241, 177]
abbrev dktX5_begins_4 : List UInt8 := dkwX5_begins_4 ++ []
def dkwX5_begins_3 : List UInt8 := [132, 2, 1, 167, 255, 238, 132, 1, 1, 167, 255, 202, 3, 60, 27, 8, 162, 0, 16, 42, 180, 0, 23, 27]
abbrev dktX5_begins_3 : List UInt8 := dkwX5_begins_3 ++ dktX5_begins_4
def dkwX5_begins_2 : List UInt8 := [132, 2, 1, 167, 255, 238, 3, 61, 28, 16, 8, 162, 0, 18, 42, 180, 0, 20, 27, 50, 28, 3, 79]
abbrev dktX5_begins_2 : List UInt8 := dkwX5_begins_2 ++ dktX5_begins_3
def dkwX5_begins_1 : List UInt8 := [3, 60, 27, 8, 163, 0, 55, 3, 61, 28, 16, 6, 162, 0, 18, 42, 180, 0, 17, 27, 50, 28, 3, 79]
abbrev dktX5_begins_1 : List UInt8 := dkwX5_begins_1 ++ dktX5_begins_2
def dkwX5_begins_0 : List UInt8 := [42, 3, 181, 0, 37, 42, 42, 180, 0, 3, 180, 0, 41, 180, 0, 45, 181, 0, 50, 42, 3, 181, 0, 51]
abbrev dktX5_begins_0 : List UInt8 := dkwX5_begins_0 ++ dktX5_begins_1
theorem dksX5_begins_0 : cX5_begins.data.toList.drop 0 = dktX5_begins_0 := by decide +kernel
theorem dksX5_begins_1 : cX5_begins.data.toList.drop 24 = dktX5_begins_1 := dk_seg dksX5_begins_0 24 rfl rfl
theorem dksX5_begins_2 : cX5_begins.data.toList.drop 48 = dktX5_begins_2 := dk_seg dksX5_begins_1 24 rfl rfl
theorem dksX5_begins_3 : cX5_begins.data.toList.drop 71 = dktX5_begins_3 := dk_seg dksX5_begins_2 23 rfl rfl
theorem dksX5_begins_4 : cX5_begins.data.toList.drop 95 = dktX5_begins_4 := dk_seg dksX5_begins_3 24 rfl rfl
theorem dX5_begins_0 : decode cX5_begins 0 = .ok (.aload_n 0, 1) := dk_42 (dk_at dksX5_begins_0 0 rfl rfl)
theorem dX5_begins_1 : decode cX5_begins 1 = .ok (.iconst 0, 1) := dk_3 (dk_at dksX5_begins_0 1 rfl rfl)
theorem dX5_begins_2 : decode cX5_begins 2 = .ok (.putfield 37, 3) := dk_181 0 37 (dk_at dksX5_begins_0 2 rfl rfl)
theorem dX5_begins_5 : decode cX5_begins 5 = .ok (.aload_n 0, 1) := dk_42 (dk_at dksX5_begins_0 5 rfl rfl)
theorem dX5_begins_6 : decode cX5_begins 6 = .ok (.aload_n 0, 1) := dk_42 (dk_at dksX5_begins_0 6 rfl rfl)
theorem dX5_begins_7 : decode cX5_begins 7 = .ok (.getfield 3, 3) := dk_180 0 3 (dk_at dksX5_begins_0 7 rfl rfl)
theorem dX5_begins_10 : decode cX5_begins 10 = .ok (.getfield 41, 3) := dk_180 0 41 (dk_at dksX5_begins_0 10 rfl rfl)
theorem dX5_begins_13 : decode cX5_begins 13 = .ok (.getfield 45, 3) := dk_180 0 45 (dk_at dksX5_begins_0 13 rfl rfl)
theorem dX5_begins_16 : decode cX5_begins 16 = .ok (.putfield 50, 3) := dk_181 0 50 (dk_at dksX5_begins_0 16 rfl rfl)
theorem dX5_begins_19 : decode cX5_begins 19 = .ok (.aload_n 0, 1) := dk_42 (dk_at dksX5_begins_0 19 rfl rfl)
theorem dX5_begins_20 : decode cX5_begins 20 = .ok (.iconst 0, 1) := dk_3 (dk_at dksX5_begins_0 20 rfl rfl)
theorem dX5_begins_21 : decode cX5_begins 21 = .ok (.putfield 51, 3) := dk_181 0 51 (dk_at dksX5_begins_0 21 rfl rfl)
theorem dX5_begins_24 : decode cX5_begins 24 = .ok (.iconst 0, 1) := dk_3 (dk_at dksX5_begins_1 0 rfl rfl)
theorem dX5_begins_25 : decode cX5_begins 25 = .ok (.istore_n 1, 1) := dk_60 (dk_at dksX5_begins_1 1 rfl rfl)
theorem dX5_begins_26 : decode cX5_begins 26 = .ok (.iload_n 1, 1) := dk_27 (dk_at dksX5_begins_1 2 rfl rfl)
theorem dX5_begins_27 : decode cX5_begins 27 = .ok (.iconst 5, 1) := dk_8 (dk_at dksX5_begins_1 3 rfl rfl)
theorem dX5_begins_28 : decode cX5_begins 28 = .ok (.if_icmp .gt 55, 3) := dk_163 0 55 (dk_at dksX5_begins_1 4 rfl rfl)
theorem dX5_begins_31 : decode cX5_begins 31 = .ok (.iconst 0, 1) := dk_3 (dk_at dksX5_begins_1 7 rfl rfl)
theorem dX5_begins_32 : decode cX5_begins 32 = .ok (.istore_n 2, 1) := dk_61 (dk_at dksX5_begins_1 8 rfl rfl)
theorem dX5_begins_33 : decode cX5_begins 33 = .ok (.iload_n 2, 1) := dk_28 (dk_at dksX5_begins_1 9 rfl rfl)
theorem dX5_begins_34 : decode cX5_begins 34 = .ok (.bipush 6, 2) := dk_16 6 (dk_at dksX5_begins_1 10 rfl rfl)
theorem dX5_begins_36 : decode cX5_begins 36 = .ok (.if_icmp .ge 18, 3) := dk_162 0 18 (dk_at dksX5_begins_1 12 rfl rfl)
theorem dX5_begins_39 : decode cX5_begins 39 = .ok (.aload_n 0, 1) := dk_42 (dk_at dksX5_begins_1 15 rfl rfl)
theorem dX5_begins_40 : decode cX5_begins 40 = .ok (.getfield 17, 3) := dk_180 0 17 (dk_at dksX5_begins_1 16 rfl rfl)
theorem dX5_begins_43 : decode cX5_begins 43 = .ok (.iload_n 1, 1) := dk_27 (dk_at dksX5_begins_1 19 rfl rfl)
theorem dX5_begins_44 : decode cX5_begins 44 = .ok (.aaload, 1) := dk_50 (dk_at dksX5_begins_1 20 rfl rfl)
theorem dX5_begins_45 : decode cX5_begins 45 = .ok (.iload_n 2, 1) := dk_28 (dk_at dksX5_begins_1 21 rfl rfl)
theorem dX5_begins_46 : decode cX5_begins 46 = .ok (.iconst 0, 1) := dk_3 (dk_at dksX5_begins_1 22 rfl rfl)
theorem dX5_begins_47 : decode cX5_begins 47 = .ok (.iastore, 1) := dk_79 (dk_at dksX5_begins_1 23 rfl rfl)
theorem dX5_begins_48 : decode cX5_begins 48 = .ok (.iinc 2 1, 3) := dk_132 2 1 (dk_at dksX5_begins_2 0 rfl rfl)
theorem dX5_begins_51 : decode cX5_begins 51 = .ok (.goto (-18), 3) := dk_167 255 238 (dk_at dksX5_begins_2 3 rfl rfl)
theorem dX5_begins_54 : decode cX5_begins 54 = .ok (.iconst 0, 1) := dk_3 (dk_at dksX5_begins_2 6 rfl rfl)
theorem dX5_begins_55 : decode cX5_begins 55 = .ok (.istore_n 2, 1) := dk_61 (dk_at dksX5_begins_2 7 rfl rfl)
theorem dX5_begins_56 : decode cX5_begins 56 = .ok (.iload_n 2, 1) := dk_28 (dk_at dksX5_begins_2 8 rfl rfl)
theorem dX5_begins_57 : decode cX5_begins 57 = .ok (.bipush 8, 2) := dk_16 8 (dk_at dksX5_begins_2 9 rfl rfl)
theorem dX5_begins_59 : decode cX5_begins 59 = .ok (.if_icmp .ge 18, 3) := dk_162 0 18 (dk_at dksX5_begins_2 11 rfl rfl)
theorem dX5_begins_62 : decode cX5_begins 62 = .ok (.aload_n 0, 1) := dk_42 (dk_at dksX5_begins_2 14 rfl rfl)
theorem dX5_begins_63 : decode cX5_begins 63 = .ok (.getfield 20, 3) := dk_180 0 20 (dk_at dksX5_begins_2 15 rfl rfl)
theorem dX5_begins_66 : decode cX5_begins 66 = .ok (.iload_n 1, 1) := dk_27 (dk_at dksX5_begins_2 18 rfl rfl)
theorem dX5_begins_67 : decode cX5_begins 67 = .ok (.aaload, 1) := dk_50 (dk_at dksX5_begins_2 19 rfl rfl)
theorem dX5_begins_68 : decode cX5_begins 68 = .ok (.iload_n 2, 1) := dk_28 (dk_at dksX5_begins_2 20 rfl rfl)
theorem dX5_begins_69 : decode cX5_begins 69 = .ok (.iconst 0, 1) := dk_3 (dk_at dksX5_begins_2 21 rfl rfl)
theorem dX5_begins_70 : decode cX5_begins 70 = .ok (.iastore, 1) := dk_79 (dk_at dksX5_begins_2 22 rfl rfl)
theorem dX5_begins_71 : decode cX5_begins 71 = .ok (.iinc 2 1, 3) := dk_132 2 1 (dk_at dksX5_begins_3 0 rfl rfl)
theorem dX5_begins_74 : decode cX5_begins 74 = .ok (.goto (-18), 3) := dk_167 255 238 (dk_at dksX5_begins_3 3 rfl rfl)
theorem dX5_begins_77 : decode cX5_begins 77 = .ok (.iinc 1 1, 3) := dk_132 1 1 (dk_at dksX5_begins_3 6 rfl rfl)
theorem dX5_begins_80 : decode cX5_begins 80 = .ok (.goto (-54), 3) := dk_167 255 202 (dk_at dksX5_begins_3 9 rfl rfl)
theorem dX5_begins_83 : decode cX5_begins 83 = .ok (.iconst 0, 1) := dk_3 (dk_at dksX5_begins_3 12 rfl rfl)
theorem dX5_begins_84 : decode cX5_begins 84 = .ok (.istore_n 1, 1) := dk_60 (dk_at dksX5_begins_3 13 rfl rfl)
theorem dX5_begins_85 : decode cX5_begins 85 = .ok (.iload_n 1, 1) := dk_27 (dk_at dksX5_begins_3 14 rfl rfl)
theorem dX5_begins_86 : decode cX5_begins 86 = .ok (.iconst 5, 1) := dk_8 (dk_at dksX5_begins_3 15 rfl rfl)
theorem dX5_begins_87 : decode cX5_begins 87 = .ok (.if_icmp .ge 16, 3) := dk_162 0 16 (dk_at dksX5_begins_3 16 rfl rfl)
theorem dX5_begins_90 : decode cX5_begins 90 = .ok (.aload_n 0, 1) := dk_42 (dk_at dksX5_begins_3 19 rfl rfl)
theorem dX5_begins_91 : decode cX5_begins 91 = .ok (.getfield 23, 3) := dk_180 0 23 (dk_at dksX5_begins_3 20 rfl rfl)
theorem dX5_begins_94 : decode cX5_begins 94 = .ok (.iload_n 1, 1) := dk_27 (dk_at dksX5_begins_3 23 rfl rfl)
theorem dX5_begins_95 : decode cX5_begins 95 = .ok (.iconst 0, 1) := dk_3 (dk_at dksX5_begins_4 0 rfl rfl)
theorem dX5_begins_96 : decode cX5_begins 96 = .ok (.iastore, 1) := dk_79 (dk_at dksX5_begins_4 1 rfl rfl)
theorem dX5_begins_97 : decode cX5_begins 97 = .ok (.iinc 1 1, 3) := dk_132 1 1 (dk_at dksX5_begins_4 2 rfl rfl)
theorem dX5_begins_100 : decode cX5_begins 100 = .ok (.goto (-15), 3) := dk_167 255 241 (dk_at dksX5_begins_4 5 rfl rfl)
theorem dX5_begins_103 : decode cX5_begins 103 = .ok (.return_, 1) := dk_177 (dk_at dksX5_begins_4 8 rfl rfl)
abbrev cX5_suggested : ByteArray := prog_18_method_8_code
def yX5_suggested : MethodName := ⟨RX5, "suggested", "(I)I"⟩
def dkwX5_suggested_2 : List UInt8 := [182, 0, 90, 164, 0, 6, 21, 4, 62, 132, 4, 1, 167, 255, 207, 29, 172]
abbrev dktX5_suggested_2 : List UInt8 := dkwX5_suggested_2 ++ []
def dkwX5_suggested_1 : List UInt8 := [28, 21, 4, 182, 0, 107, 153, 0, 27, 29, 2, 159, 0, 19, 42, 28, 21, 4, 182, 0, 90, 42, 28, 29]
abbrev dktX5_suggested_1 : List UInt8 := dkwX5_suggested_1 ++ dktX5_suggested_2
def dkwX5_suggested_0 : List UInt8 := [42, 27, 182, 0, 100, 61, 2, 62, 3, 54, 4, 21, 4, 42, 180, 0, 3, 182, 0, 104, 162, 0, 43, 42]
abbrev dktX5_suggested_0 : List UInt8 := dkwX5_suggested_0 ++ dktX5_suggested_1
theorem dksX5_suggested_0 : cX5_suggested.data.toList.drop 0 = dktX5_suggested_0 := by decide +kernel
theorem dksX5_suggested_1 : cX5_suggested.data.toList.drop 24 = dktX5_suggested_1 := dk_seg dksX5_suggested_0 24 rfl rfl
theorem dksX5_suggested_2 : cX5_suggested.data.toList.drop 48 = dktX5_suggested_2 := dk_seg dksX5_suggested_1 24 rfl rfl
theorem dX5_suggested_0 : decode cX5_suggested 0 = .ok (.aload_n 0, 1) := dk_42 (dk_at dksX5_suggested_0 0 rfl rfl)
theorem dX5_suggested_1 : decode cX5_suggested 1 = .ok (.iload_n 1, 1) := dk_27 (dk_at dksX5_suggested_0 1 rfl rfl)
theorem dX5_suggested_2 : decode cX5_suggested 2 = .ok (.invokevirtual 100, 3) := dk_182 0 100 (dk_at dksX5_suggested_0 2 rfl rfl)
theorem dX5_suggested_5 : decode cX5_suggested 5 = .ok (.istore_n 2, 1) := dk_61 (dk_at dksX5_suggested_0 5 rfl rfl)
theorem dX5_suggested_6 : decode cX5_suggested 6 = .ok (.iconst (-1), 1) := dk_2 (dk_at dksX5_suggested_0 6 rfl rfl)
theorem dX5_suggested_7 : decode cX5_suggested 7 = .ok (.istore_n 3, 1) := dk_62 (dk_at dksX5_suggested_0 7 rfl rfl)
theorem dX5_suggested_8 : decode cX5_suggested 8 = .ok (.iconst 0, 1) := dk_3 (dk_at dksX5_suggested_0 8 rfl rfl)
theorem dX5_suggested_9 : decode cX5_suggested 9 = .ok (.istore 4, 2) := dk_54 4 (dk_at dksX5_suggested_0 9 rfl rfl)
theorem dX5_suggested_11 : decode cX5_suggested 11 = .ok (.iload 4, 2) := dk_21 4 (dk_at dksX5_suggested_0 11 rfl rfl)
theorem dX5_suggested_13 : decode cX5_suggested 13 = .ok (.aload_n 0, 1) := dk_42 (dk_at dksX5_suggested_0 13 rfl rfl)
theorem dX5_suggested_14 : decode cX5_suggested 14 = .ok (.getfield 3, 3) := dk_180 0 3 (dk_at dksX5_suggested_0 14 rfl rfl)
theorem dX5_suggested_17 : decode cX5_suggested 17 = .ok (.invokevirtual 104, 3) := dk_182 0 104 (dk_at dksX5_suggested_0 17 rfl rfl)
theorem dX5_suggested_20 : decode cX5_suggested 20 = .ok (.if_icmp .ge 43, 3) := dk_162 0 43 (dk_at dksX5_suggested_0 20 rfl rfl)
theorem dX5_suggested_23 : decode cX5_suggested 23 = .ok (.aload_n 0, 1) := dk_42 (dk_at dksX5_suggested_0 23 rfl rfl)
theorem dX5_suggested_24 : decode cX5_suggested 24 = .ok (.iload_n 2, 1) := dk_28 (dk_at dksX5_suggested_1 0 rfl rfl)
theorem dX5_suggested_25 : decode cX5_suggested 25 = .ok (.iload 4, 2) := dk_21 4 (dk_at dksX5_suggested_1 1 rfl rfl)
theorem dX5_suggested_27 : decode cX5_suggested 27 = .ok (.invokevirtual 107, 3) := dk_182 0 107 (dk_at dksX5_suggested_1 3 rfl rfl)
theorem dX5_suggested_30 : decode cX5_suggested 30 = .ok (.ifCond .eq 27, 3) := dk_153 0 27 (dk_at dksX5_suggested_1 6 rfl rfl)
theorem dX5_suggested_33 : decode cX5_suggested 33 = .ok (.iload_n 3, 1) := dk_29 (dk_at dksX5_suggested_1 9 rfl rfl)
theorem dX5_suggested_34 : decode cX5_suggested 34 = .ok (.iconst (-1), 1) := dk_2 (dk_at dksX5_suggested_1 10 rfl rfl)
theorem dX5_suggested_35 : decode cX5_suggested 35 = .ok (.if_icmp .eq 19, 3) := dk_159 0 19 (dk_at dksX5_suggested_1 11 rfl rfl)
theorem dX5_suggested_38 : decode cX5_suggested 38 = .ok (.aload_n 0, 1) := dk_42 (dk_at dksX5_suggested_1 14 rfl rfl)
theorem dX5_suggested_39 : decode cX5_suggested 39 = .ok (.iload_n 2, 1) := dk_28 (dk_at dksX5_suggested_1 15 rfl rfl)
theorem dX5_suggested_40 : decode cX5_suggested 40 = .ok (.iload 4, 2) := dk_21 4 (dk_at dksX5_suggested_1 16 rfl rfl)
theorem dX5_suggested_42 : decode cX5_suggested 42 = .ok (.invokevirtual 90, 3) := dk_182 0 90 (dk_at dksX5_suggested_1 18 rfl rfl)
theorem dX5_suggested_45 : decode cX5_suggested 45 = .ok (.aload_n 0, 1) := dk_42 (dk_at dksX5_suggested_1 21 rfl rfl)
theorem dX5_suggested_46 : decode cX5_suggested 46 = .ok (.iload_n 2, 1) := dk_28 (dk_at dksX5_suggested_1 22 rfl rfl)
theorem dX5_suggested_47 : decode cX5_suggested 47 = .ok (.iload_n 3, 1) := dk_29 (dk_at dksX5_suggested_1 23 rfl rfl)
theorem dX5_suggested_48 : decode cX5_suggested 48 = .ok (.invokevirtual 90, 3) := dk_182 0 90 (dk_at dksX5_suggested_2 0 rfl rfl)
theorem dX5_suggested_51 : decode cX5_suggested 51 = .ok (.if_icmp .le 6, 3) := dk_164 0 6 (dk_at dksX5_suggested_2 3 rfl rfl)
theorem dX5_suggested_54 : decode cX5_suggested 54 = .ok (.iload 4, 2) := dk_21 4 (dk_at dksX5_suggested_2 6 rfl rfl)
theorem dX5_suggested_56 : decode cX5_suggested 56 = .ok (.istore_n 3, 1) := dk_62 (dk_at dksX5_suggested_2 8 rfl rfl)
theorem dX5_suggested_57 : decode cX5_suggested 57 = .ok (.iinc 4 1, 3) := dk_132 4 1 (dk_at dksX5_suggested_2 9 rfl rfl)
theorem dX5_suggested_60 : decode cX5_suggested 60 = .ok (.goto (-49), 3) := dk_167 255 207 (dk_at dksX5_suggested_2 12 rfl rfl)
theorem dX5_suggested_63 : decode cX5_suggested 63 = .ok (.iload_n 3, 1) := dk_29 (dk_at dksX5_suggested_2 15 rfl rfl)
theorem dX5_suggested_64 : decode cX5_suggested 64 = .ok (.ireturn, 1) := dk_172 (dk_at dksX5_suggested_2 16 rfl rfl)
abbrev cX5_profile : ByteArray := prog_18_method_4_code
def yX5_profile : MethodName := ⟨RX5, "profile", "(I)I"⟩
def dkwX5_profile_0 : List UInt8 := [27, 2, 159, 0, 20, 42, 180, 0, 50, 27, 184, 0, 54, 153, 0, 9, 27, 4, 96, 167, 0, 4, 3, 172]
abbrev dktX5_profile_0 : List UInt8 := dkwX5_profile_0 ++ []
theorem dksX5_profile_0 : cX5_profile.data.toList.drop 0 = dktX5_profile_0 := by decide +kernel
theorem dX5_profile_0 : decode cX5_profile 0 = .ok (.iload_n 1, 1) := dk_27 (dk_at dksX5_profile_0 0 rfl rfl)
theorem dX5_profile_1 : decode cX5_profile 1 = .ok (.iconst (-1), 1) := dk_2 (dk_at dksX5_profile_0 1 rfl rfl)
theorem dX5_profile_2 : decode cX5_profile 2 = .ok (.if_icmp .eq 20, 3) := dk_159 0 20 (dk_at dksX5_profile_0 2 rfl rfl)
theorem dX5_profile_5 : decode cX5_profile 5 = .ok (.aload_n 0, 1) := dk_42 (dk_at dksX5_profile_0 5 rfl rfl)
theorem dX5_profile_6 : decode cX5_profile 6 = .ok (.getfield 50, 3) := dk_180 0 50 (dk_at dksX5_profile_0 6 rfl rfl)
theorem dX5_profile_9 : decode cX5_profile 9 = .ok (.iload_n 1, 1) := dk_27 (dk_at dksX5_profile_0 9 rfl rfl)
theorem dX5_profile_10 : decode cX5_profile 10 = .ok (.invokestatic 54, 3) := dk_184 0 54 (dk_at dksX5_profile_0 10 rfl rfl)
theorem dX5_profile_13 : decode cX5_profile 13 = .ok (.ifCond .eq 9, 3) := dk_153 0 9 (dk_at dksX5_profile_0 13 rfl rfl)
theorem dX5_profile_16 : decode cX5_profile 16 = .ok (.iload_n 1, 1) := dk_27 (dk_at dksX5_profile_0 16 rfl rfl)
theorem dX5_profile_17 : decode cX5_profile 17 = .ok (.iconst 1, 1) := dk_4 (dk_at dksX5_profile_0 17 rfl rfl)
theorem dX5_profile_18 : decode cX5_profile 18 = .ok (.iadd, 1) := dk_96 (dk_at dksX5_profile_0 18 rfl rfl)
theorem dX5_profile_19 : decode cX5_profile 19 = .ok (.goto 4, 3) := dk_167 0 4 (dk_at dksX5_profile_0 19 rfl rfl)
theorem dX5_profile_22 : decode cX5_profile 22 = .ok (.iconst 0, 1) := dk_3 (dk_at dksX5_profile_0 22 rfl rfl)
theorem dX5_profile_23 : decode cX5_profile 23 = .ok (.ireturn, 1) := dk_172 (dk_at dksX5_profile_0 23 rfl rfl)
abbrev cX5_may : ByteArray := prog_18_method_7_code
def yX5_may : MethodName := ⟨RX5, "may", "(II)Z"⟩
def dkwX5_may_5 : List UInt8 := [180, 0, 77, 42, 180, 0, 3, 180, 0, 81, 182, 0, 94, 172]
abbrev dktX5_may_5 : List UInt8 := dkwX5_may_5 ++ []
def dkwX5_may_4 : List UInt8 := [180, 0, 81, 180, 0, 85, 8, 42, 27, 28, 182, 0, 90, 133, 80, 42, 180, 0, 3, 180, 0, 41]
abbrev dktX5_may_4 : List UInt8 := dkwX5_may_4 ++ dktX5_may_5
def dkwX5_may_3 : List UInt8 := [180, 0, 3, 180, 0, 81, 180, 0, 85, 7, 42, 180, 0, 20, 27, 50, 28, 46, 133, 80, 42, 180, 0, 3]
abbrev dktX5_may_3 : List UInt8 := dkwX5_may_3 ++ dktX5_may_4
def dkwX5_may_2 : List UInt8 := [180, 0, 3, 180, 0, 81, 180, 0, 85, 6, 42, 180, 0, 3, 28, 182, 0, 62, 180, 0, 71, 133, 80, 42]
abbrev dktX5_may_2 : List UInt8 := dkwX5_may_2 ++ dktX5_may_3
def dkwX5_may_1 : List UInt8 := [4, 172, 42, 180, 0, 3, 180, 0, 81, 180, 0, 85, 3, 42, 180, 0, 37, 16, 24, 112, 133, 80, 42]
abbrev dktX5_may_1 : List UInt8 := dkwX5_may_1 ++ dktX5_may_2
def dkwX5_may_0 : List UInt8 := [42, 27, 28, 182, 0, 74, 153, 0, 5, 3, 172, 42, 180, 0, 3, 180, 0, 41, 180, 0, 77, 199, 0, 5]
abbrev dktX5_may_0 : List UInt8 := dkwX5_may_0 ++ dktX5_may_1
theorem dksX5_may_0 : cX5_may.data.toList.drop 0 = dktX5_may_0 := by decide +kernel
theorem dksX5_may_1 : cX5_may.data.toList.drop 24 = dktX5_may_1 := dk_seg dksX5_may_0 24 rfl rfl
theorem dksX5_may_2 : cX5_may.data.toList.drop 47 = dktX5_may_2 := dk_seg dksX5_may_1 23 rfl rfl
theorem dksX5_may_3 : cX5_may.data.toList.drop 71 = dktX5_may_3 := dk_seg dksX5_may_2 24 rfl rfl
theorem dksX5_may_4 : cX5_may.data.toList.drop 95 = dktX5_may_4 := dk_seg dksX5_may_3 24 rfl rfl
theorem dksX5_may_5 : cX5_may.data.toList.drop 117 = dktX5_may_5 := dk_seg dksX5_may_4 22 rfl rfl
theorem dX5_may_0 : decode cX5_may 0 = .ok (.aload_n 0, 1) := dk_42 (dk_at dksX5_may_0 0 rfl rfl)
theorem dX5_may_1 : decode cX5_may 1 = .ok (.iload_n 1, 1) := dk_27 (dk_at dksX5_may_0 1 rfl rfl)
theorem dX5_may_2 : decode cX5_may 2 = .ok (.iload_n 2, 1) := dk_28 (dk_at dksX5_may_0 2 rfl rfl)
theorem dX5_may_3 : decode cX5_may 3 = .ok (.invokevirtual 74, 3) := dk_182 0 74 (dk_at dksX5_may_0 3 rfl rfl)
theorem dX5_may_6 : decode cX5_may 6 = .ok (.ifCond .eq 5, 3) := dk_153 0 5 (dk_at dksX5_may_0 6 rfl rfl)
theorem dX5_may_9 : decode cX5_may 9 = .ok (.iconst 0, 1) := dk_3 (dk_at dksX5_may_0 9 rfl rfl)
theorem dX5_may_10 : decode cX5_may 10 = .ok (.ireturn, 1) := dk_172 (dk_at dksX5_may_0 10 rfl rfl)
theorem dX5_may_11 : decode cX5_may 11 = .ok (.aload_n 0, 1) := dk_42 (dk_at dksX5_may_0 11 rfl rfl)
theorem dX5_may_12 : decode cX5_may 12 = .ok (.getfield 3, 3) := dk_180 0 3 (dk_at dksX5_may_0 12 rfl rfl)
theorem dX5_may_15 : decode cX5_may 15 = .ok (.getfield 41, 3) := dk_180 0 41 (dk_at dksX5_may_0 15 rfl rfl)
theorem dX5_may_18 : decode cX5_may 18 = .ok (.getfield 77, 3) := dk_180 0 77 (dk_at dksX5_may_0 18 rfl rfl)
theorem dX5_may_21 : decode cX5_may 21 = .ok (.ifnonnull 5, 3) := dk_199 0 5 (dk_at dksX5_may_0 21 rfl rfl)
theorem dX5_may_24 : decode cX5_may 24 = .ok (.iconst 1, 1) := dk_4 (dk_at dksX5_may_1 0 rfl rfl)
theorem dX5_may_25 : decode cX5_may 25 = .ok (.ireturn, 1) := dk_172 (dk_at dksX5_may_1 1 rfl rfl)
theorem dX5_may_26 : decode cX5_may 26 = .ok (.aload_n 0, 1) := dk_42 (dk_at dksX5_may_1 2 rfl rfl)
theorem dX5_may_27 : decode cX5_may 27 = .ok (.getfield 3, 3) := dk_180 0 3 (dk_at dksX5_may_1 3 rfl rfl)
theorem dX5_may_30 : decode cX5_may 30 = .ok (.getfield 81, 3) := dk_180 0 81 (dk_at dksX5_may_1 6 rfl rfl)
theorem dX5_may_33 : decode cX5_may 33 = .ok (.getfield 85, 3) := dk_180 0 85 (dk_at dksX5_may_1 9 rfl rfl)
theorem dX5_may_36 : decode cX5_may 36 = .ok (.iconst 0, 1) := dk_3 (dk_at dksX5_may_1 12 rfl rfl)
theorem dX5_may_37 : decode cX5_may 37 = .ok (.aload_n 0, 1) := dk_42 (dk_at dksX5_may_1 13 rfl rfl)
theorem dX5_may_38 : decode cX5_may 38 = .ok (.getfield 37, 3) := dk_180 0 37 (dk_at dksX5_may_1 14 rfl rfl)
theorem dX5_may_41 : decode cX5_may 41 = .ok (.bipush 24, 2) := dk_16 24 (dk_at dksX5_may_1 17 rfl rfl)
theorem dX5_may_43 : decode cX5_may 43 = .ok (.irem, 1) := dk_112 (dk_at dksX5_may_1 19 rfl rfl)
theorem dX5_may_44 : decode cX5_may 44 = .ok (.i2l, 1) := dk_133 (dk_at dksX5_may_1 20 rfl rfl)
theorem dX5_may_45 : decode cX5_may 45 = .ok (.lastore, 1) := dk_80 (dk_at dksX5_may_1 21 rfl rfl)
theorem dX5_may_46 : decode cX5_may 46 = .ok (.aload_n 0, 1) := dk_42 (dk_at dksX5_may_1 22 rfl rfl)
theorem dX5_may_47 : decode cX5_may 47 = .ok (.getfield 3, 3) := dk_180 0 3 (dk_at dksX5_may_2 0 rfl rfl)
theorem dX5_may_50 : decode cX5_may 50 = .ok (.getfield 81, 3) := dk_180 0 81 (dk_at dksX5_may_2 3 rfl rfl)
theorem dX5_may_53 : decode cX5_may 53 = .ok (.getfield 85, 3) := dk_180 0 85 (dk_at dksX5_may_2 6 rfl rfl)
theorem dX5_may_56 : decode cX5_may 56 = .ok (.iconst 3, 1) := dk_6 (dk_at dksX5_may_2 9 rfl rfl)
theorem dX5_may_57 : decode cX5_may 57 = .ok (.aload_n 0, 1) := dk_42 (dk_at dksX5_may_2 10 rfl rfl)
theorem dX5_may_58 : decode cX5_may 58 = .ok (.getfield 3, 3) := dk_180 0 3 (dk_at dksX5_may_2 11 rfl rfl)
theorem dX5_may_61 : decode cX5_may 61 = .ok (.iload_n 2, 1) := dk_28 (dk_at dksX5_may_2 14 rfl rfl)
theorem dX5_may_62 : decode cX5_may 62 = .ok (.invokevirtual 62, 3) := dk_182 0 62 (dk_at dksX5_may_2 15 rfl rfl)
theorem dX5_may_65 : decode cX5_may 65 = .ok (.getfield 71, 3) := dk_180 0 71 (dk_at dksX5_may_2 18 rfl rfl)
theorem dX5_may_68 : decode cX5_may 68 = .ok (.i2l, 1) := dk_133 (dk_at dksX5_may_2 21 rfl rfl)
theorem dX5_may_69 : decode cX5_may 69 = .ok (.lastore, 1) := dk_80 (dk_at dksX5_may_2 22 rfl rfl)
theorem dX5_may_70 : decode cX5_may 70 = .ok (.aload_n 0, 1) := dk_42 (dk_at dksX5_may_2 23 rfl rfl)
theorem dX5_may_71 : decode cX5_may 71 = .ok (.getfield 3, 3) := dk_180 0 3 (dk_at dksX5_may_3 0 rfl rfl)
theorem dX5_may_74 : decode cX5_may 74 = .ok (.getfield 81, 3) := dk_180 0 81 (dk_at dksX5_may_3 3 rfl rfl)
theorem dX5_may_77 : decode cX5_may 77 = .ok (.getfield 85, 3) := dk_180 0 85 (dk_at dksX5_may_3 6 rfl rfl)
theorem dX5_may_80 : decode cX5_may 80 = .ok (.iconst 4, 1) := dk_7 (dk_at dksX5_may_3 9 rfl rfl)
theorem dX5_may_81 : decode cX5_may 81 = .ok (.aload_n 0, 1) := dk_42 (dk_at dksX5_may_3 10 rfl rfl)
theorem dX5_may_82 : decode cX5_may 82 = .ok (.getfield 20, 3) := dk_180 0 20 (dk_at dksX5_may_3 11 rfl rfl)
theorem dX5_may_85 : decode cX5_may 85 = .ok (.iload_n 1, 1) := dk_27 (dk_at dksX5_may_3 14 rfl rfl)
theorem dX5_may_86 : decode cX5_may 86 = .ok (.aaload, 1) := dk_50 (dk_at dksX5_may_3 15 rfl rfl)
theorem dX5_may_87 : decode cX5_may 87 = .ok (.iload_n 2, 1) := dk_28 (dk_at dksX5_may_3 16 rfl rfl)
theorem dX5_may_88 : decode cX5_may 88 = .ok (.iaload, 1) := dk_46 (dk_at dksX5_may_3 17 rfl rfl)
theorem dX5_may_89 : decode cX5_may 89 = .ok (.i2l, 1) := dk_133 (dk_at dksX5_may_3 18 rfl rfl)
theorem dX5_may_90 : decode cX5_may 90 = .ok (.lastore, 1) := dk_80 (dk_at dksX5_may_3 19 rfl rfl)
theorem dX5_may_91 : decode cX5_may 91 = .ok (.aload_n 0, 1) := dk_42 (dk_at dksX5_may_3 20 rfl rfl)
theorem dX5_may_92 : decode cX5_may 92 = .ok (.getfield 3, 3) := dk_180 0 3 (dk_at dksX5_may_3 21 rfl rfl)
theorem dX5_may_95 : decode cX5_may 95 = .ok (.getfield 81, 3) := dk_180 0 81 (dk_at dksX5_may_4 0 rfl rfl)
theorem dX5_may_98 : decode cX5_may 98 = .ok (.getfield 85, 3) := dk_180 0 85 (dk_at dksX5_may_4 3 rfl rfl)
theorem dX5_may_101 : decode cX5_may 101 = .ok (.iconst 5, 1) := dk_8 (dk_at dksX5_may_4 6 rfl rfl)
theorem dX5_may_102 : decode cX5_may 102 = .ok (.aload_n 0, 1) := dk_42 (dk_at dksX5_may_4 7 rfl rfl)
theorem dX5_may_103 : decode cX5_may 103 = .ok (.iload_n 1, 1) := dk_27 (dk_at dksX5_may_4 8 rfl rfl)
theorem dX5_may_104 : decode cX5_may 104 = .ok (.iload_n 2, 1) := dk_28 (dk_at dksX5_may_4 9 rfl rfl)
theorem dX5_may_105 : decode cX5_may 105 = .ok (.invokevirtual 90, 3) := dk_182 0 90 (dk_at dksX5_may_4 10 rfl rfl)
theorem dX5_may_108 : decode cX5_may 108 = .ok (.i2l, 1) := dk_133 (dk_at dksX5_may_4 13 rfl rfl)
theorem dX5_may_109 : decode cX5_may 109 = .ok (.lastore, 1) := dk_80 (dk_at dksX5_may_4 14 rfl rfl)
theorem dX5_may_110 : decode cX5_may 110 = .ok (.aload_n 0, 1) := dk_42 (dk_at dksX5_may_4 15 rfl rfl)
theorem dX5_may_111 : decode cX5_may 111 = .ok (.getfield 3, 3) := dk_180 0 3 (dk_at dksX5_may_4 16 rfl rfl)
theorem dX5_may_114 : decode cX5_may 114 = .ok (.getfield 41, 3) := dk_180 0 41 (dk_at dksX5_may_4 19 rfl rfl)
theorem dX5_may_117 : decode cX5_may 117 = .ok (.getfield 77, 3) := dk_180 0 77 (dk_at dksX5_may_5 0 rfl rfl)
theorem dX5_may_120 : decode cX5_may 120 = .ok (.aload_n 0, 1) := dk_42 (dk_at dksX5_may_5 3 rfl rfl)
theorem dX5_may_121 : decode cX5_may 121 = .ok (.getfield 3, 3) := dk_180 0 3 (dk_at dksX5_may_5 4 rfl rfl)
theorem dX5_may_124 : decode cX5_may 124 = .ok (.getfield 81, 3) := dk_180 0 81 (dk_at dksX5_may_5 7 rfl rfl)
theorem dX5_may_127 : decode cX5_may 127 = .ok (.invokevirtual 94, 3) := dk_182 0 94 (dk_at dksX5_may_5 10 rfl rfl)
theorem dX5_may_130 : decode cX5_may 130 = .ok (.ireturn, 1) := dk_172 (dk_at dksX5_may_5 13 rfl rfl)
abbrev cX5_isOver : ByteArray := prog_18_method_6_code
def yX5_isOver : MethodName := ⟨RX5, "isOver", "(II)Z"⟩
def dkwX5_isOver_1 : List UInt8 := [167, 0, 4, 3, 172]
abbrev dktX5_isOver_1 : List UInt8 := dkwX5_isOver_1 ++ []
def dkwX5_isOver_0 : List UInt8 := [42, 180, 0, 20, 27, 50, 28, 46, 42, 180, 0, 3, 28, 182, 0, 62, 180, 0, 71, 160, 0, 7, 4]
abbrev dktX5_isOver_0 : List UInt8 := dkwX5_isOver_0 ++ dktX5_isOver_1
theorem dksX5_isOver_0 : cX5_isOver.data.toList.drop 0 = dktX5_isOver_0 := by decide +kernel
theorem dksX5_isOver_1 : cX5_isOver.data.toList.drop 23 = dktX5_isOver_1 := dk_seg dksX5_isOver_0 23 rfl rfl
theorem dX5_isOver_0 : decode cX5_isOver 0 = .ok (.aload_n 0, 1) := dk_42 (dk_at dksX5_isOver_0 0 rfl rfl)
theorem dX5_isOver_1 : decode cX5_isOver 1 = .ok (.getfield 20, 3) := dk_180 0 20 (dk_at dksX5_isOver_0 1 rfl rfl)
theorem dX5_isOver_4 : decode cX5_isOver 4 = .ok (.iload_n 1, 1) := dk_27 (dk_at dksX5_isOver_0 4 rfl rfl)
theorem dX5_isOver_5 : decode cX5_isOver 5 = .ok (.aaload, 1) := dk_50 (dk_at dksX5_isOver_0 5 rfl rfl)
theorem dX5_isOver_6 : decode cX5_isOver 6 = .ok (.iload_n 2, 1) := dk_28 (dk_at dksX5_isOver_0 6 rfl rfl)
theorem dX5_isOver_7 : decode cX5_isOver 7 = .ok (.iaload, 1) := dk_46 (dk_at dksX5_isOver_0 7 rfl rfl)
theorem dX5_isOver_8 : decode cX5_isOver 8 = .ok (.aload_n 0, 1) := dk_42 (dk_at dksX5_isOver_0 8 rfl rfl)
theorem dX5_isOver_9 : decode cX5_isOver 9 = .ok (.getfield 3, 3) := dk_180 0 3 (dk_at dksX5_isOver_0 9 rfl rfl)
theorem dX5_isOver_12 : decode cX5_isOver 12 = .ok (.iload_n 2, 1) := dk_28 (dk_at dksX5_isOver_0 12 rfl rfl)
theorem dX5_isOver_13 : decode cX5_isOver 13 = .ok (.invokevirtual 62, 3) := dk_182 0 62 (dk_at dksX5_isOver_0 13 rfl rfl)
theorem dX5_isOver_16 : decode cX5_isOver 16 = .ok (.getfield 71, 3) := dk_180 0 71 (dk_at dksX5_isOver_0 16 rfl rfl)
theorem dX5_isOver_19 : decode cX5_isOver 19 = .ok (.if_icmp .ne 7, 3) := dk_160 0 7 (dk_at dksX5_isOver_0 19 rfl rfl)
theorem dX5_isOver_22 : decode cX5_isOver 22 = .ok (.iconst 1, 1) := dk_4 (dk_at dksX5_isOver_0 22 rfl rfl)
theorem dX5_isOver_23 : decode cX5_isOver 23 = .ok (.goto 4, 3) := dk_167 0 4 (dk_at dksX5_isOver_1 0 rfl rfl)
theorem dX5_isOver_26 : decode cX5_isOver 26 = .ok (.iconst 0, 1) := dk_3 (dk_at dksX5_isOver_1 3 rfl rfl)
theorem dX5_isOver_27 : decode cX5_isOver 27 = .ok (.ireturn, 1) := dk_172 (dk_at dksX5_isOver_1 4 rfl rfl)
abbrev cX5_score : ByteArray := prog_18_method_5_code
def yX5_score : MethodName := ⟨RX5, "score", "(II)I"⟩
def dkwX5_score_2 : List UInt8 := [167, 255, 214, 29, 172]
abbrev dktX5_score_2 : List UInt8 := dkwX5_score_2 ++ []
def dkwX5_score_1 : List UInt8 := [182, 0, 62, 180, 0, 66, 21, 4, 46, 42, 180, 0, 17, 27, 50, 21, 4, 46, 104, 96, 62, 132, 4, 1]
abbrev dktX5_score_1 : List UInt8 := dkwX5_score_1 ++ dktX5_score_2
def dkwX5_score_0 : List UInt8 := [4, 62, 3, 54, 4, 21, 4, 42, 180, 0, 3, 182, 0, 58, 162, 0, 36, 29, 42, 180, 0, 3, 28]
abbrev dktX5_score_0 : List UInt8 := dkwX5_score_0 ++ dktX5_score_1
theorem dksX5_score_0 : cX5_score.data.toList.drop 0 = dktX5_score_0 := by decide +kernel
theorem dksX5_score_1 : cX5_score.data.toList.drop 23 = dktX5_score_1 := dk_seg dksX5_score_0 23 rfl rfl
theorem dksX5_score_2 : cX5_score.data.toList.drop 47 = dktX5_score_2 := dk_seg dksX5_score_1 24 rfl rfl
theorem dX5_score_0 : decode cX5_score 0 = .ok (.iconst 1, 1) := dk_4 (dk_at dksX5_score_0 0 rfl rfl)
theorem dX5_score_1 : decode cX5_score 1 = .ok (.istore_n 3, 1) := dk_62 (dk_at dksX5_score_0 1 rfl rfl)
theorem dX5_score_2 : decode cX5_score 2 = .ok (.iconst 0, 1) := dk_3 (dk_at dksX5_score_0 2 rfl rfl)
theorem dX5_score_3 : decode cX5_score 3 = .ok (.istore 4, 2) := dk_54 4 (dk_at dksX5_score_0 3 rfl rfl)
theorem dX5_score_5 : decode cX5_score 5 = .ok (.iload 4, 2) := dk_21 4 (dk_at dksX5_score_0 5 rfl rfl)
theorem dX5_score_7 : decode cX5_score 7 = .ok (.aload_n 0, 1) := dk_42 (dk_at dksX5_score_0 7 rfl rfl)
theorem dX5_score_8 : decode cX5_score 8 = .ok (.getfield 3, 3) := dk_180 0 3 (dk_at dksX5_score_0 8 rfl rfl)
theorem dX5_score_11 : decode cX5_score 11 = .ok (.invokevirtual 58, 3) := dk_182 0 58 (dk_at dksX5_score_0 11 rfl rfl)
theorem dX5_score_14 : decode cX5_score 14 = .ok (.if_icmp .ge 36, 3) := dk_162 0 36 (dk_at dksX5_score_0 14 rfl rfl)
theorem dX5_score_17 : decode cX5_score 17 = .ok (.iload_n 3, 1) := dk_29 (dk_at dksX5_score_0 17 rfl rfl)
theorem dX5_score_18 : decode cX5_score 18 = .ok (.aload_n 0, 1) := dk_42 (dk_at dksX5_score_0 18 rfl rfl)
theorem dX5_score_19 : decode cX5_score 19 = .ok (.getfield 3, 3) := dk_180 0 3 (dk_at dksX5_score_0 19 rfl rfl)
theorem dX5_score_22 : decode cX5_score 22 = .ok (.iload_n 2, 1) := dk_28 (dk_at dksX5_score_0 22 rfl rfl)
theorem dX5_score_23 : decode cX5_score 23 = .ok (.invokevirtual 62, 3) := dk_182 0 62 (dk_at dksX5_score_1 0 rfl rfl)
theorem dX5_score_26 : decode cX5_score 26 = .ok (.getfield 66, 3) := dk_180 0 66 (dk_at dksX5_score_1 3 rfl rfl)
theorem dX5_score_29 : decode cX5_score 29 = .ok (.iload 4, 2) := dk_21 4 (dk_at dksX5_score_1 6 rfl rfl)
theorem dX5_score_31 : decode cX5_score 31 = .ok (.iaload, 1) := dk_46 (dk_at dksX5_score_1 8 rfl rfl)
theorem dX5_score_32 : decode cX5_score 32 = .ok (.aload_n 0, 1) := dk_42 (dk_at dksX5_score_1 9 rfl rfl)
theorem dX5_score_33 : decode cX5_score 33 = .ok (.getfield 17, 3) := dk_180 0 17 (dk_at dksX5_score_1 10 rfl rfl)
theorem dX5_score_36 : decode cX5_score 36 = .ok (.iload_n 1, 1) := dk_27 (dk_at dksX5_score_1 13 rfl rfl)
theorem dX5_score_37 : decode cX5_score 37 = .ok (.aaload, 1) := dk_50 (dk_at dksX5_score_1 14 rfl rfl)
theorem dX5_score_38 : decode cX5_score 38 = .ok (.iload 4, 2) := dk_21 4 (dk_at dksX5_score_1 15 rfl rfl)
theorem dX5_score_40 : decode cX5_score 40 = .ok (.iaload, 1) := dk_46 (dk_at dksX5_score_1 17 rfl rfl)
theorem dX5_score_41 : decode cX5_score 41 = .ok (.imul, 1) := dk_104 (dk_at dksX5_score_1 18 rfl rfl)
theorem dX5_score_42 : decode cX5_score 42 = .ok (.iadd, 1) := dk_96 (dk_at dksX5_score_1 19 rfl rfl)
theorem dX5_score_43 : decode cX5_score 43 = .ok (.istore_n 3, 1) := dk_62 (dk_at dksX5_score_1 20 rfl rfl)
theorem dX5_score_44 : decode cX5_score 44 = .ok (.iinc 4 1, 3) := dk_132 4 1 (dk_at dksX5_score_1 21 rfl rfl)
theorem dX5_score_47 : decode cX5_score 47 = .ok (.goto (-42), 3) := dk_167 255 214 (dk_at dksX5_score_2 0 rfl rfl)
theorem dX5_score_50 : decode cX5_score 50 = .ok (.iload_n 3, 1) := dk_29 (dk_at dksX5_score_2 3 rfl rfl)
theorem dX5_score_51 : decode cX5_score 51 = .ok (.ireturn, 1) := dk_172 (dk_at dksX5_score_2 4 rfl rfl)
abbrev cX5_copy : ByteArray := prog_18_method_3_code
def yX5_copy : MethodName := ⟨RX5, "copy", "(LFourOnOne$State;)LFourOnOne$State;"⟩
def dkwX5_copy_7 : List UInt8 := [28, 50, 29, 46, 79, 132, 3, 1, 167, 255, 232, 132, 2, 1, 167, 255, 216, 42, 176]
abbrev dktX5_copy_7 : List UInt8 := dkwX5_copy_7 ++ []
def dkwX5_copy_6 : List UInt8 := [180, 0, 51, 162, 0, 38, 3, 62, 29, 7, 162, 0, 25, 42, 180, 0, 27, 28, 50, 29, 43, 180, 0, 27]
abbrev dktX5_copy_6 : List UInt8 := dkwX5_copy_6 ++ dktX5_copy_7
def dkwX5_copy_5 : List UInt8 := [180, 0, 30, 28, 9, 80, 42, 180, 0, 34, 28, 3, 79, 132, 2, 1, 167, 255, 222, 3, 61, 28, 42]
abbrev dktX5_copy_5 : List UInt8 := dkwX5_copy_5 ++ dktX5_copy_6
def dkwX5_copy_4 : List UInt8 := [167, 255, 188, 3, 61, 28, 8, 162, 0, 35, 42, 180, 0, 23, 28, 43, 180, 0, 23, 28, 46, 79, 42]
abbrev dktX5_copy_4 : List UInt8 := dkwX5_copy_4 ++ dktX5_copy_5
def dkwX5_copy_3 : List UInt8 := [180, 0, 20, 28, 50, 29, 43, 180, 0, 20, 28, 50, 29, 46, 79, 132, 3, 1, 167, 255, 231, 132, 2, 1]
abbrev dktX5_copy_3 : List UInt8 := dkwX5_copy_3 ++ dktX5_copy_4
def dkwX5_copy_2 : List UInt8 := [180, 0, 17, 28, 50, 29, 46, 79, 132, 3, 1, 167, 255, 231, 3, 62, 29, 16, 8, 162, 0, 25, 42]
abbrev dktX5_copy_2 : List UInt8 := dkwX5_copy_2 ++ dktX5_copy_3
def dkwX5_copy_1 : List UInt8 := [3, 61, 28, 8, 163, 0, 69, 3, 62, 29, 16, 6, 162, 0, 25, 42, 180, 0, 17, 28, 50, 29, 43]
abbrev dktX5_copy_1 : List UInt8 := dkwX5_copy_1 ++ dktX5_copy_2
def dkwX5_copy_0 : List UInt8 := [42, 43, 180, 0, 37, 181, 0, 37, 42, 43, 180, 0, 50, 181, 0, 50, 42, 43, 180, 0, 51, 181, 0, 51]
abbrev dktX5_copy_0 : List UInt8 := dkwX5_copy_0 ++ dktX5_copy_1
theorem dksX5_copy_0 : cX5_copy.data.toList.drop 0 = dktX5_copy_0 := by decide +kernel
theorem dksX5_copy_1 : cX5_copy.data.toList.drop 24 = dktX5_copy_1 := dk_seg dksX5_copy_0 24 rfl rfl
theorem dksX5_copy_2 : cX5_copy.data.toList.drop 47 = dktX5_copy_2 := dk_seg dksX5_copy_1 23 rfl rfl
theorem dksX5_copy_3 : cX5_copy.data.toList.drop 70 = dktX5_copy_3 := dk_seg dksX5_copy_2 23 rfl rfl
theorem dksX5_copy_4 : cX5_copy.data.toList.drop 94 = dktX5_copy_4 := dk_seg dksX5_copy_3 24 rfl rfl
theorem dksX5_copy_5 : cX5_copy.data.toList.drop 117 = dktX5_copy_5 := dk_seg dksX5_copy_4 23 rfl rfl
theorem dksX5_copy_6 : cX5_copy.data.toList.drop 140 = dktX5_copy_6 := dk_seg dksX5_copy_5 23 rfl rfl
theorem dksX5_copy_7 : cX5_copy.data.toList.drop 164 = dktX5_copy_7 := dk_seg dksX5_copy_6 24 rfl rfl
theorem dX5_copy_0 : decode cX5_copy 0 = .ok (.aload_n 0, 1) := dk_42 (dk_at dksX5_copy_0 0 rfl rfl)
theorem dX5_copy_1 : decode cX5_copy 1 = .ok (.aload_n 1, 1) := dk_43 (dk_at dksX5_copy_0 1 rfl rfl)
theorem dX5_copy_2 : decode cX5_copy 2 = .ok (.getfield 37, 3) := dk_180 0 37 (dk_at dksX5_copy_0 2 rfl rfl)
theorem dX5_copy_5 : decode cX5_copy 5 = .ok (.putfield 37, 3) := dk_181 0 37 (dk_at dksX5_copy_0 5 rfl rfl)
theorem dX5_copy_8 : decode cX5_copy 8 = .ok (.aload_n 0, 1) := dk_42 (dk_at dksX5_copy_0 8 rfl rfl)
theorem dX5_copy_9 : decode cX5_copy 9 = .ok (.aload_n 1, 1) := dk_43 (dk_at dksX5_copy_0 9 rfl rfl)
theorem dX5_copy_10 : decode cX5_copy 10 = .ok (.getfield 50, 3) := dk_180 0 50 (dk_at dksX5_copy_0 10 rfl rfl)
theorem dX5_copy_13 : decode cX5_copy 13 = .ok (.putfield 50, 3) := dk_181 0 50 (dk_at dksX5_copy_0 13 rfl rfl)
theorem dX5_copy_16 : decode cX5_copy 16 = .ok (.aload_n 0, 1) := dk_42 (dk_at dksX5_copy_0 16 rfl rfl)
theorem dX5_copy_17 : decode cX5_copy 17 = .ok (.aload_n 1, 1) := dk_43 (dk_at dksX5_copy_0 17 rfl rfl)
theorem dX5_copy_18 : decode cX5_copy 18 = .ok (.getfield 51, 3) := dk_180 0 51 (dk_at dksX5_copy_0 18 rfl rfl)
theorem dX5_copy_21 : decode cX5_copy 21 = .ok (.putfield 51, 3) := dk_181 0 51 (dk_at dksX5_copy_0 21 rfl rfl)
theorem dX5_copy_24 : decode cX5_copy 24 = .ok (.iconst 0, 1) := dk_3 (dk_at dksX5_copy_1 0 rfl rfl)
theorem dX5_copy_25 : decode cX5_copy 25 = .ok (.istore_n 2, 1) := dk_61 (dk_at dksX5_copy_1 1 rfl rfl)
theorem dX5_copy_26 : decode cX5_copy 26 = .ok (.iload_n 2, 1) := dk_28 (dk_at dksX5_copy_1 2 rfl rfl)
theorem dX5_copy_27 : decode cX5_copy 27 = .ok (.iconst 5, 1) := dk_8 (dk_at dksX5_copy_1 3 rfl rfl)
theorem dX5_copy_28 : decode cX5_copy 28 = .ok (.if_icmp .gt 69, 3) := dk_163 0 69 (dk_at dksX5_copy_1 4 rfl rfl)
theorem dX5_copy_31 : decode cX5_copy 31 = .ok (.iconst 0, 1) := dk_3 (dk_at dksX5_copy_1 7 rfl rfl)
theorem dX5_copy_32 : decode cX5_copy 32 = .ok (.istore_n 3, 1) := dk_62 (dk_at dksX5_copy_1 8 rfl rfl)
theorem dX5_copy_33 : decode cX5_copy 33 = .ok (.iload_n 3, 1) := dk_29 (dk_at dksX5_copy_1 9 rfl rfl)
theorem dX5_copy_34 : decode cX5_copy 34 = .ok (.bipush 6, 2) := dk_16 6 (dk_at dksX5_copy_1 10 rfl rfl)
theorem dX5_copy_36 : decode cX5_copy 36 = .ok (.if_icmp .ge 25, 3) := dk_162 0 25 (dk_at dksX5_copy_1 12 rfl rfl)
theorem dX5_copy_39 : decode cX5_copy 39 = .ok (.aload_n 0, 1) := dk_42 (dk_at dksX5_copy_1 15 rfl rfl)
theorem dX5_copy_40 : decode cX5_copy 40 = .ok (.getfield 17, 3) := dk_180 0 17 (dk_at dksX5_copy_1 16 rfl rfl)
theorem dX5_copy_43 : decode cX5_copy 43 = .ok (.iload_n 2, 1) := dk_28 (dk_at dksX5_copy_1 19 rfl rfl)
theorem dX5_copy_44 : decode cX5_copy 44 = .ok (.aaload, 1) := dk_50 (dk_at dksX5_copy_1 20 rfl rfl)
theorem dX5_copy_45 : decode cX5_copy 45 = .ok (.iload_n 3, 1) := dk_29 (dk_at dksX5_copy_1 21 rfl rfl)
theorem dX5_copy_46 : decode cX5_copy 46 = .ok (.aload_n 1, 1) := dk_43 (dk_at dksX5_copy_1 22 rfl rfl)
theorem dX5_copy_47 : decode cX5_copy 47 = .ok (.getfield 17, 3) := dk_180 0 17 (dk_at dksX5_copy_2 0 rfl rfl)
theorem dX5_copy_50 : decode cX5_copy 50 = .ok (.iload_n 2, 1) := dk_28 (dk_at dksX5_copy_2 3 rfl rfl)
theorem dX5_copy_51 : decode cX5_copy 51 = .ok (.aaload, 1) := dk_50 (dk_at dksX5_copy_2 4 rfl rfl)
theorem dX5_copy_52 : decode cX5_copy 52 = .ok (.iload_n 3, 1) := dk_29 (dk_at dksX5_copy_2 5 rfl rfl)
theorem dX5_copy_53 : decode cX5_copy 53 = .ok (.iaload, 1) := dk_46 (dk_at dksX5_copy_2 6 rfl rfl)
theorem dX5_copy_54 : decode cX5_copy 54 = .ok (.iastore, 1) := dk_79 (dk_at dksX5_copy_2 7 rfl rfl)
theorem dX5_copy_55 : decode cX5_copy 55 = .ok (.iinc 3 1, 3) := dk_132 3 1 (dk_at dksX5_copy_2 8 rfl rfl)
theorem dX5_copy_58 : decode cX5_copy 58 = .ok (.goto (-25), 3) := dk_167 255 231 (dk_at dksX5_copy_2 11 rfl rfl)
theorem dX5_copy_61 : decode cX5_copy 61 = .ok (.iconst 0, 1) := dk_3 (dk_at dksX5_copy_2 14 rfl rfl)
theorem dX5_copy_62 : decode cX5_copy 62 = .ok (.istore_n 3, 1) := dk_62 (dk_at dksX5_copy_2 15 rfl rfl)
theorem dX5_copy_63 : decode cX5_copy 63 = .ok (.iload_n 3, 1) := dk_29 (dk_at dksX5_copy_2 16 rfl rfl)
theorem dX5_copy_64 : decode cX5_copy 64 = .ok (.bipush 8, 2) := dk_16 8 (dk_at dksX5_copy_2 17 rfl rfl)
theorem dX5_copy_66 : decode cX5_copy 66 = .ok (.if_icmp .ge 25, 3) := dk_162 0 25 (dk_at dksX5_copy_2 19 rfl rfl)
theorem dX5_copy_69 : decode cX5_copy 69 = .ok (.aload_n 0, 1) := dk_42 (dk_at dksX5_copy_2 22 rfl rfl)
theorem dX5_copy_70 : decode cX5_copy 70 = .ok (.getfield 20, 3) := dk_180 0 20 (dk_at dksX5_copy_3 0 rfl rfl)
theorem dX5_copy_73 : decode cX5_copy 73 = .ok (.iload_n 2, 1) := dk_28 (dk_at dksX5_copy_3 3 rfl rfl)
theorem dX5_copy_74 : decode cX5_copy 74 = .ok (.aaload, 1) := dk_50 (dk_at dksX5_copy_3 4 rfl rfl)
theorem dX5_copy_75 : decode cX5_copy 75 = .ok (.iload_n 3, 1) := dk_29 (dk_at dksX5_copy_3 5 rfl rfl)
theorem dX5_copy_76 : decode cX5_copy 76 = .ok (.aload_n 1, 1) := dk_43 (dk_at dksX5_copy_3 6 rfl rfl)
theorem dX5_copy_77 : decode cX5_copy 77 = .ok (.getfield 20, 3) := dk_180 0 20 (dk_at dksX5_copy_3 7 rfl rfl)
theorem dX5_copy_80 : decode cX5_copy 80 = .ok (.iload_n 2, 1) := dk_28 (dk_at dksX5_copy_3 10 rfl rfl)
theorem dX5_copy_81 : decode cX5_copy 81 = .ok (.aaload, 1) := dk_50 (dk_at dksX5_copy_3 11 rfl rfl)
theorem dX5_copy_82 : decode cX5_copy 82 = .ok (.iload_n 3, 1) := dk_29 (dk_at dksX5_copy_3 12 rfl rfl)
theorem dX5_copy_83 : decode cX5_copy 83 = .ok (.iaload, 1) := dk_46 (dk_at dksX5_copy_3 13 rfl rfl)
theorem dX5_copy_84 : decode cX5_copy 84 = .ok (.iastore, 1) := dk_79 (dk_at dksX5_copy_3 14 rfl rfl)
theorem dX5_copy_85 : decode cX5_copy 85 = .ok (.iinc 3 1, 3) := dk_132 3 1 (dk_at dksX5_copy_3 15 rfl rfl)
theorem dX5_copy_88 : decode cX5_copy 88 = .ok (.goto (-25), 3) := dk_167 255 231 (dk_at dksX5_copy_3 18 rfl rfl)
theorem dX5_copy_91 : decode cX5_copy 91 = .ok (.iinc 2 1, 3) := dk_132 2 1 (dk_at dksX5_copy_3 21 rfl rfl)
theorem dX5_copy_94 : decode cX5_copy 94 = .ok (.goto (-68), 3) := dk_167 255 188 (dk_at dksX5_copy_4 0 rfl rfl)
theorem dX5_copy_97 : decode cX5_copy 97 = .ok (.iconst 0, 1) := dk_3 (dk_at dksX5_copy_4 3 rfl rfl)
theorem dX5_copy_98 : decode cX5_copy 98 = .ok (.istore_n 2, 1) := dk_61 (dk_at dksX5_copy_4 4 rfl rfl)
theorem dX5_copy_99 : decode cX5_copy 99 = .ok (.iload_n 2, 1) := dk_28 (dk_at dksX5_copy_4 5 rfl rfl)
theorem dX5_copy_100 : decode cX5_copy 100 = .ok (.iconst 5, 1) := dk_8 (dk_at dksX5_copy_4 6 rfl rfl)
theorem dX5_copy_101 : decode cX5_copy 101 = .ok (.if_icmp .ge 35, 3) := dk_162 0 35 (dk_at dksX5_copy_4 7 rfl rfl)
theorem dX5_copy_104 : decode cX5_copy 104 = .ok (.aload_n 0, 1) := dk_42 (dk_at dksX5_copy_4 10 rfl rfl)
theorem dX5_copy_105 : decode cX5_copy 105 = .ok (.getfield 23, 3) := dk_180 0 23 (dk_at dksX5_copy_4 11 rfl rfl)
theorem dX5_copy_108 : decode cX5_copy 108 = .ok (.iload_n 2, 1) := dk_28 (dk_at dksX5_copy_4 14 rfl rfl)
theorem dX5_copy_109 : decode cX5_copy 109 = .ok (.aload_n 1, 1) := dk_43 (dk_at dksX5_copy_4 15 rfl rfl)
theorem dX5_copy_110 : decode cX5_copy 110 = .ok (.getfield 23, 3) := dk_180 0 23 (dk_at dksX5_copy_4 16 rfl rfl)
theorem dX5_copy_113 : decode cX5_copy 113 = .ok (.iload_n 2, 1) := dk_28 (dk_at dksX5_copy_4 19 rfl rfl)
theorem dX5_copy_114 : decode cX5_copy 114 = .ok (.iaload, 1) := dk_46 (dk_at dksX5_copy_4 20 rfl rfl)
theorem dX5_copy_115 : decode cX5_copy 115 = .ok (.iastore, 1) := dk_79 (dk_at dksX5_copy_4 21 rfl rfl)
theorem dX5_copy_116 : decode cX5_copy 116 = .ok (.aload_n 0, 1) := dk_42 (dk_at dksX5_copy_4 22 rfl rfl)
theorem dX5_copy_117 : decode cX5_copy 117 = .ok (.getfield 30, 3) := dk_180 0 30 (dk_at dksX5_copy_5 0 rfl rfl)
theorem dX5_copy_120 : decode cX5_copy 120 = .ok (.iload_n 2, 1) := dk_28 (dk_at dksX5_copy_5 3 rfl rfl)
theorem dX5_copy_121 : decode cX5_copy 121 = .ok (.lconst 0, 1) := dk_9 (dk_at dksX5_copy_5 4 rfl rfl)
theorem dX5_copy_122 : decode cX5_copy 122 = .ok (.lastore, 1) := dk_80 (dk_at dksX5_copy_5 5 rfl rfl)
theorem dX5_copy_123 : decode cX5_copy 123 = .ok (.aload_n 0, 1) := dk_42 (dk_at dksX5_copy_5 6 rfl rfl)
theorem dX5_copy_124 : decode cX5_copy 124 = .ok (.getfield 34, 3) := dk_180 0 34 (dk_at dksX5_copy_5 7 rfl rfl)
theorem dX5_copy_127 : decode cX5_copy 127 = .ok (.iload_n 2, 1) := dk_28 (dk_at dksX5_copy_5 10 rfl rfl)
theorem dX5_copy_128 : decode cX5_copy 128 = .ok (.iconst 0, 1) := dk_3 (dk_at dksX5_copy_5 11 rfl rfl)
theorem dX5_copy_129 : decode cX5_copy 129 = .ok (.iastore, 1) := dk_79 (dk_at dksX5_copy_5 12 rfl rfl)
theorem dX5_copy_130 : decode cX5_copy 130 = .ok (.iinc 2 1, 3) := dk_132 2 1 (dk_at dksX5_copy_5 13 rfl rfl)
theorem dX5_copy_133 : decode cX5_copy 133 = .ok (.goto (-34), 3) := dk_167 255 222 (dk_at dksX5_copy_5 16 rfl rfl)
theorem dX5_copy_136 : decode cX5_copy 136 = .ok (.iconst 0, 1) := dk_3 (dk_at dksX5_copy_5 19 rfl rfl)
theorem dX5_copy_137 : decode cX5_copy 137 = .ok (.istore_n 2, 1) := dk_61 (dk_at dksX5_copy_5 20 rfl rfl)
theorem dX5_copy_138 : decode cX5_copy 138 = .ok (.iload_n 2, 1) := dk_28 (dk_at dksX5_copy_5 21 rfl rfl)
theorem dX5_copy_139 : decode cX5_copy 139 = .ok (.aload_n 0, 1) := dk_42 (dk_at dksX5_copy_5 22 rfl rfl)
theorem dX5_copy_140 : decode cX5_copy 140 = .ok (.getfield 51, 3) := dk_180 0 51 (dk_at dksX5_copy_6 0 rfl rfl)
theorem dX5_copy_143 : decode cX5_copy 143 = .ok (.if_icmp .ge 38, 3) := dk_162 0 38 (dk_at dksX5_copy_6 3 rfl rfl)
theorem dX5_copy_146 : decode cX5_copy 146 = .ok (.iconst 0, 1) := dk_3 (dk_at dksX5_copy_6 6 rfl rfl)
theorem dX5_copy_147 : decode cX5_copy 147 = .ok (.istore_n 3, 1) := dk_62 (dk_at dksX5_copy_6 7 rfl rfl)
theorem dX5_copy_148 : decode cX5_copy 148 = .ok (.iload_n 3, 1) := dk_29 (dk_at dksX5_copy_6 8 rfl rfl)
theorem dX5_copy_149 : decode cX5_copy 149 = .ok (.iconst 4, 1) := dk_7 (dk_at dksX5_copy_6 9 rfl rfl)
theorem dX5_copy_150 : decode cX5_copy 150 = .ok (.if_icmp .ge 25, 3) := dk_162 0 25 (dk_at dksX5_copy_6 10 rfl rfl)
theorem dX5_copy_153 : decode cX5_copy 153 = .ok (.aload_n 0, 1) := dk_42 (dk_at dksX5_copy_6 13 rfl rfl)
theorem dX5_copy_154 : decode cX5_copy 154 = .ok (.getfield 27, 3) := dk_180 0 27 (dk_at dksX5_copy_6 14 rfl rfl)
theorem dX5_copy_157 : decode cX5_copy 157 = .ok (.iload_n 2, 1) := dk_28 (dk_at dksX5_copy_6 17 rfl rfl)
theorem dX5_copy_158 : decode cX5_copy 158 = .ok (.aaload, 1) := dk_50 (dk_at dksX5_copy_6 18 rfl rfl)
theorem dX5_copy_159 : decode cX5_copy 159 = .ok (.iload_n 3, 1) := dk_29 (dk_at dksX5_copy_6 19 rfl rfl)
theorem dX5_copy_160 : decode cX5_copy 160 = .ok (.aload_n 1, 1) := dk_43 (dk_at dksX5_copy_6 20 rfl rfl)
theorem dX5_copy_161 : decode cX5_copy 161 = .ok (.getfield 27, 3) := dk_180 0 27 (dk_at dksX5_copy_6 21 rfl rfl)
theorem dX5_copy_164 : decode cX5_copy 164 = .ok (.iload_n 2, 1) := dk_28 (dk_at dksX5_copy_7 0 rfl rfl)
theorem dX5_copy_165 : decode cX5_copy 165 = .ok (.aaload, 1) := dk_50 (dk_at dksX5_copy_7 1 rfl rfl)
theorem dX5_copy_166 : decode cX5_copy 166 = .ok (.iload_n 3, 1) := dk_29 (dk_at dksX5_copy_7 2 rfl rfl)
theorem dX5_copy_167 : decode cX5_copy 167 = .ok (.iaload, 1) := dk_46 (dk_at dksX5_copy_7 3 rfl rfl)
theorem dX5_copy_168 : decode cX5_copy 168 = .ok (.iastore, 1) := dk_79 (dk_at dksX5_copy_7 4 rfl rfl)
theorem dX5_copy_169 : decode cX5_copy 169 = .ok (.iinc 3 1, 3) := dk_132 3 1 (dk_at dksX5_copy_7 5 rfl rfl)
theorem dX5_copy_172 : decode cX5_copy 172 = .ok (.goto (-24), 3) := dk_167 255 232 (dk_at dksX5_copy_7 8 rfl rfl)
theorem dX5_copy_175 : decode cX5_copy 175 = .ok (.iinc 2 1, 3) := dk_132 2 1 (dk_at dksX5_copy_7 11 rfl rfl)
theorem dX5_copy_178 : decode cX5_copy 178 = .ok (.goto (-40), 3) := dk_167 255 216 (dk_at dksX5_copy_7 14 rfl rfl)
theorem dX5_copy_181 : decode cX5_copy 181 = .ok (.aload_n 0, 1) := dk_42 (dk_at dksX5_copy_7 17 rfl rfl)
theorem dX5_copy_182 : decode cX5_copy 182 = .ok (.areturn, 1) := dk_176 (dk_at dksX5_copy_7 18 rfl rfl)
abbrev cX5_hours : ByteArray := prog_18_method_15_code
def yX5_hours : MethodName := ⟨RX5, "hours", "(I)LFourOnOne$State;"⟩
def dkwX5_hours_0 : List UInt8 := [3, 61, 28, 27, 162, 0, 14, 42, 182, 0, 169, 87, 132, 2, 1, 167, 255, 243, 42, 176]
abbrev dktX5_hours_0 : List UInt8 := dkwX5_hours_0 ++ []
theorem dksX5_hours_0 : cX5_hours.data.toList.drop 0 = dktX5_hours_0 := by decide +kernel
theorem dX5_hours_0 : decode cX5_hours 0 = .ok (.iconst 0, 1) := dk_3 (dk_at dksX5_hours_0 0 rfl rfl)
theorem dX5_hours_1 : decode cX5_hours 1 = .ok (.istore_n 2, 1) := dk_61 (dk_at dksX5_hours_0 1 rfl rfl)
theorem dX5_hours_2 : decode cX5_hours 2 = .ok (.iload_n 2, 1) := dk_28 (dk_at dksX5_hours_0 2 rfl rfl)
theorem dX5_hours_3 : decode cX5_hours 3 = .ok (.iload_n 1, 1) := dk_27 (dk_at dksX5_hours_0 3 rfl rfl)
theorem dX5_hours_4 : decode cX5_hours 4 = .ok (.if_icmp .ge 14, 3) := dk_162 0 14 (dk_at dksX5_hours_0 4 rfl rfl)
theorem dX5_hours_7 : decode cX5_hours 7 = .ok (.aload_n 0, 1) := dk_42 (dk_at dksX5_hours_0 7 rfl rfl)
theorem dX5_hours_8 : decode cX5_hours 8 = .ok (.invokevirtual 169, 3) := dk_182 0 169 (dk_at dksX5_hours_0 8 rfl rfl)
theorem dX5_hours_11 : decode cX5_hours 11 = .ok (.pop, 1) := dk_87 (dk_at dksX5_hours_0 11 rfl rfl)
theorem dX5_hours_12 : decode cX5_hours 12 = .ok (.iinc 2 1, 3) := dk_132 2 1 (dk_at dksX5_hours_0 12 rfl rfl)
theorem dX5_hours_15 : decode cX5_hours 15 = .ok (.goto (-13), 3) := dk_167 255 243 (dk_at dksX5_hours_0 15 rfl rfl)
theorem dX5_hours_18 : decode cX5_hours 18 = .ok (.aload_n 0, 1) := dk_42 (dk_at dksX5_hours_0 18 rfl rfl)
theorem dX5_hours_19 : decode cX5_hours 19 = .ok (.areturn, 1) := dk_176 (dk_at dksX5_hours_0 19 rfl rfl)
abbrev cX5_passes : ByteArray := prog_18_method_14_code
def yX5_passes : MethodName := ⟨RX5, "passes", "()I"⟩
def dkwX5_passes_10 : List UInt8 := [180, 0, 37, 4, 96, 181, 0, 37, 27, 172]
abbrev dktX5_passes_10 : List UInt8 := dkwX5_passes_10 ++ []
def dkwX5_passes_9 : List UInt8 := [180, 0, 81, 182, 0, 124, 182, 0, 130, 79, 132, 3, 1, 167, 255, 169, 132, 2, 1, 167, 255, 137, 42, 89]
abbrev dktX5_passes_9 : List UInt8 := dkwX5_passes_9 ++ dktX5_passes_10
def dkwX5_passes_8 : List UInt8 := [133, 80, 42, 180, 0, 17, 28, 50, 29, 42, 42, 180, 0, 3, 180, 0, 41, 180, 0, 166, 42, 180, 0, 3]
abbrev dktX5_passes_8 : List UInt8 := dkwX5_passes_8 ++ dktX5_passes_9
def dkwX5_passes_7 : List UInt8 := [16, 24, 112, 133, 80, 42, 180, 0, 3, 180, 0, 81, 180, 0, 85, 4, 42, 180, 0, 17, 28, 50, 29, 46]
abbrev dktX5_passes_7 : List UInt8 := dkwX5_passes_7 ++ dktX5_passes_8
def dkwX5_passes_6 : List UInt8 := [180, 0, 3, 182, 0, 58, 162, 0, 82, 42, 180, 0, 3, 180, 0, 81, 180, 0, 85, 3, 42, 180, 0, 37]
abbrev dktX5_passes_6 : List UInt8 := dkwX5_passes_6 ++ dktX5_passes_7
def dkwX5_passes_5 : List UInt8 := [182, 0, 151, 163, 0, 114, 42, 180, 0, 3, 180, 0, 41, 180, 0, 166, 198, 0, 101, 3, 62, 29, 42]
abbrev dktX5_passes_5 : List UInt8 := dkwX5_passes_5 ++ dktX5_passes_6
def dkwX5_passes_4 : List UInt8 := [4, 29, 120, 128, 181, 0, 148, 132, 1, 1, 132, 2, 1, 167, 255, 157, 3, 61, 28, 42, 180, 0, 3]
abbrev dktX5_passes_4 : List UInt8 := dkwX5_passes_4 ++ dktX5_passes_5
def dkwX5_passes_3 : List UInt8 := [180, 0, 34, 28, 92, 46, 4, 96, 79, 167, 0, 25, 42, 28, 29, 182, 0, 163, 87, 42, 89, 180, 0, 148]
abbrev dktX5_passes_3 : List UInt8 := dkwX5_passes_3 ++ dktX5_passes_4
def dkwX5_passes_2 : List UInt8 := [29, 2, 160, 0, 6, 167, 0, 52, 27, 42, 180, 0, 3, 180, 0, 41, 180, 0, 160, 160, 0, 16, 42]
abbrev dktX5_passes_2 : List UInt8 := dkwX5_passes_2 ++ dktX5_passes_3
def dkwX5_passes_1 : List UInt8 := [28, 42, 180, 0, 37, 16, 24, 112, 182, 0, 154, 153, 0, 11, 42, 28, 182, 0, 157, 167, 0, 4, 2, 62]
abbrev dktX5_passes_1 : List UInt8 := dkwX5_passes_1 ++ dktX5_passes_2
def dkwX5_passes_0 : List UInt8 := [3, 60, 42, 3, 181, 0, 148, 3, 61, 28, 42, 180, 0, 3, 182, 0, 151, 162, 0, 94, 42, 180, 0, 3]
abbrev dktX5_passes_0 : List UInt8 := dkwX5_passes_0 ++ dktX5_passes_1
theorem dksX5_passes_0 : cX5_passes.data.toList.drop 0 = dktX5_passes_0 := by decide +kernel
theorem dksX5_passes_1 : cX5_passes.data.toList.drop 24 = dktX5_passes_1 := dk_seg dksX5_passes_0 24 rfl rfl
theorem dksX5_passes_2 : cX5_passes.data.toList.drop 48 = dktX5_passes_2 := dk_seg dksX5_passes_1 24 rfl rfl
theorem dksX5_passes_3 : cX5_passes.data.toList.drop 71 = dktX5_passes_3 := dk_seg dksX5_passes_2 23 rfl rfl
theorem dksX5_passes_4 : cX5_passes.data.toList.drop 95 = dktX5_passes_4 := dk_seg dksX5_passes_3 24 rfl rfl
theorem dksX5_passes_5 : cX5_passes.data.toList.drop 118 = dktX5_passes_5 := dk_seg dksX5_passes_4 23 rfl rfl
theorem dksX5_passes_6 : cX5_passes.data.toList.drop 141 = dktX5_passes_6 := dk_seg dksX5_passes_5 23 rfl rfl
theorem dksX5_passes_7 : cX5_passes.data.toList.drop 165 = dktX5_passes_7 := dk_seg dksX5_passes_6 24 rfl rfl
theorem dksX5_passes_8 : cX5_passes.data.toList.drop 189 = dktX5_passes_8 := dk_seg dksX5_passes_7 24 rfl rfl
theorem dksX5_passes_9 : cX5_passes.data.toList.drop 213 = dktX5_passes_9 := dk_seg dksX5_passes_8 24 rfl rfl
theorem dksX5_passes_10 : cX5_passes.data.toList.drop 237 = dktX5_passes_10 := dk_seg dksX5_passes_9 24 rfl rfl
theorem dX5_passes_0 : decode cX5_passes 0 = .ok (.iconst 0, 1) := dk_3 (dk_at dksX5_passes_0 0 rfl rfl)
theorem dX5_passes_1 : decode cX5_passes 1 = .ok (.istore_n 1, 1) := dk_60 (dk_at dksX5_passes_0 1 rfl rfl)
theorem dX5_passes_2 : decode cX5_passes 2 = .ok (.aload_n 0, 1) := dk_42 (dk_at dksX5_passes_0 2 rfl rfl)
theorem dX5_passes_3 : decode cX5_passes 3 = .ok (.iconst 0, 1) := dk_3 (dk_at dksX5_passes_0 3 rfl rfl)
theorem dX5_passes_4 : decode cX5_passes 4 = .ok (.putfield 148, 3) := dk_181 0 148 (dk_at dksX5_passes_0 4 rfl rfl)
theorem dX5_passes_7 : decode cX5_passes 7 = .ok (.iconst 0, 1) := dk_3 (dk_at dksX5_passes_0 7 rfl rfl)
theorem dX5_passes_8 : decode cX5_passes 8 = .ok (.istore_n 2, 1) := dk_61 (dk_at dksX5_passes_0 8 rfl rfl)
theorem dX5_passes_9 : decode cX5_passes 9 = .ok (.iload_n 2, 1) := dk_28 (dk_at dksX5_passes_0 9 rfl rfl)
theorem dX5_passes_10 : decode cX5_passes 10 = .ok (.aload_n 0, 1) := dk_42 (dk_at dksX5_passes_0 10 rfl rfl)
theorem dX5_passes_11 : decode cX5_passes 11 = .ok (.getfield 3, 3) := dk_180 0 3 (dk_at dksX5_passes_0 11 rfl rfl)
theorem dX5_passes_14 : decode cX5_passes 14 = .ok (.invokevirtual 151, 3) := dk_182 0 151 (dk_at dksX5_passes_0 14 rfl rfl)
theorem dX5_passes_17 : decode cX5_passes 17 = .ok (.if_icmp .ge 94, 3) := dk_162 0 94 (dk_at dksX5_passes_0 17 rfl rfl)
theorem dX5_passes_20 : decode cX5_passes 20 = .ok (.aload_n 0, 1) := dk_42 (dk_at dksX5_passes_0 20 rfl rfl)
theorem dX5_passes_21 : decode cX5_passes 21 = .ok (.getfield 3, 3) := dk_180 0 3 (dk_at dksX5_passes_0 21 rfl rfl)
theorem dX5_passes_24 : decode cX5_passes 24 = .ok (.iload_n 2, 1) := dk_28 (dk_at dksX5_passes_1 0 rfl rfl)
theorem dX5_passes_25 : decode cX5_passes 25 = .ok (.aload_n 0, 1) := dk_42 (dk_at dksX5_passes_1 1 rfl rfl)
theorem dX5_passes_26 : decode cX5_passes 26 = .ok (.getfield 37, 3) := dk_180 0 37 (dk_at dksX5_passes_1 2 rfl rfl)
theorem dX5_passes_29 : decode cX5_passes 29 = .ok (.bipush 24, 2) := dk_16 24 (dk_at dksX5_passes_1 5 rfl rfl)
theorem dX5_passes_31 : decode cX5_passes 31 = .ok (.irem, 1) := dk_112 (dk_at dksX5_passes_1 7 rfl rfl)
theorem dX5_passes_32 : decode cX5_passes 32 = .ok (.invokevirtual 154, 3) := dk_182 0 154 (dk_at dksX5_passes_1 8 rfl rfl)
theorem dX5_passes_35 : decode cX5_passes 35 = .ok (.ifCond .eq 11, 3) := dk_153 0 11 (dk_at dksX5_passes_1 11 rfl rfl)
theorem dX5_passes_38 : decode cX5_passes 38 = .ok (.aload_n 0, 1) := dk_42 (dk_at dksX5_passes_1 14 rfl rfl)
theorem dX5_passes_39 : decode cX5_passes 39 = .ok (.iload_n 2, 1) := dk_28 (dk_at dksX5_passes_1 15 rfl rfl)
theorem dX5_passes_40 : decode cX5_passes 40 = .ok (.invokevirtual 157, 3) := dk_182 0 157 (dk_at dksX5_passes_1 16 rfl rfl)
theorem dX5_passes_43 : decode cX5_passes 43 = .ok (.goto 4, 3) := dk_167 0 4 (dk_at dksX5_passes_1 19 rfl rfl)
theorem dX5_passes_46 : decode cX5_passes 46 = .ok (.iconst (-1), 1) := dk_2 (dk_at dksX5_passes_1 22 rfl rfl)
theorem dX5_passes_47 : decode cX5_passes 47 = .ok (.istore_n 3, 1) := dk_62 (dk_at dksX5_passes_1 23 rfl rfl)
theorem dX5_passes_48 : decode cX5_passes 48 = .ok (.iload_n 3, 1) := dk_29 (dk_at dksX5_passes_2 0 rfl rfl)
theorem dX5_passes_49 : decode cX5_passes 49 = .ok (.iconst (-1), 1) := dk_2 (dk_at dksX5_passes_2 1 rfl rfl)
theorem dX5_passes_50 : decode cX5_passes 50 = .ok (.if_icmp .ne 6, 3) := dk_160 0 6 (dk_at dksX5_passes_2 2 rfl rfl)
theorem dX5_passes_53 : decode cX5_passes 53 = .ok (.goto 52, 3) := dk_167 0 52 (dk_at dksX5_passes_2 5 rfl rfl)
theorem dX5_passes_56 : decode cX5_passes 56 = .ok (.iload_n 1, 1) := dk_27 (dk_at dksX5_passes_2 8 rfl rfl)
theorem dX5_passes_57 : decode cX5_passes 57 = .ok (.aload_n 0, 1) := dk_42 (dk_at dksX5_passes_2 9 rfl rfl)
theorem dX5_passes_58 : decode cX5_passes 58 = .ok (.getfield 3, 3) := dk_180 0 3 (dk_at dksX5_passes_2 10 rfl rfl)
theorem dX5_passes_61 : decode cX5_passes 61 = .ok (.getfield 41, 3) := dk_180 0 41 (dk_at dksX5_passes_2 13 rfl rfl)
theorem dX5_passes_64 : decode cX5_passes 64 = .ok (.getfield 160, 3) := dk_180 0 160 (dk_at dksX5_passes_2 16 rfl rfl)
theorem dX5_passes_67 : decode cX5_passes 67 = .ok (.if_icmp .ne 16, 3) := dk_160 0 16 (dk_at dksX5_passes_2 19 rfl rfl)
theorem dX5_passes_70 : decode cX5_passes 70 = .ok (.aload_n 0, 1) := dk_42 (dk_at dksX5_passes_2 22 rfl rfl)
theorem dX5_passes_71 : decode cX5_passes 71 = .ok (.getfield 34, 3) := dk_180 0 34 (dk_at dksX5_passes_3 0 rfl rfl)
theorem dX5_passes_74 : decode cX5_passes 74 = .ok (.iload_n 2, 1) := dk_28 (dk_at dksX5_passes_3 3 rfl rfl)
theorem dX5_passes_75 : decode cX5_passes 75 = .ok (.dup2, 1) := dk_92 (dk_at dksX5_passes_3 4 rfl rfl)
theorem dX5_passes_76 : decode cX5_passes 76 = .ok (.iaload, 1) := dk_46 (dk_at dksX5_passes_3 5 rfl rfl)
theorem dX5_passes_77 : decode cX5_passes 77 = .ok (.iconst 1, 1) := dk_4 (dk_at dksX5_passes_3 6 rfl rfl)
theorem dX5_passes_78 : decode cX5_passes 78 = .ok (.iadd, 1) := dk_96 (dk_at dksX5_passes_3 7 rfl rfl)
theorem dX5_passes_79 : decode cX5_passes 79 = .ok (.iastore, 1) := dk_79 (dk_at dksX5_passes_3 8 rfl rfl)
theorem dX5_passes_80 : decode cX5_passes 80 = .ok (.goto 25, 3) := dk_167 0 25 (dk_at dksX5_passes_3 9 rfl rfl)
theorem dX5_passes_83 : decode cX5_passes 83 = .ok (.aload_n 0, 1) := dk_42 (dk_at dksX5_passes_3 12 rfl rfl)
theorem dX5_passes_84 : decode cX5_passes 84 = .ok (.iload_n 2, 1) := dk_28 (dk_at dksX5_passes_3 13 rfl rfl)
theorem dX5_passes_85 : decode cX5_passes 85 = .ok (.iload_n 3, 1) := dk_29 (dk_at dksX5_passes_3 14 rfl rfl)
theorem dX5_passes_86 : decode cX5_passes 86 = .ok (.invokevirtual 163, 3) := dk_182 0 163 (dk_at dksX5_passes_3 15 rfl rfl)
theorem dX5_passes_89 : decode cX5_passes 89 = .ok (.pop, 1) := dk_87 (dk_at dksX5_passes_3 18 rfl rfl)
theorem dX5_passes_90 : decode cX5_passes 90 = .ok (.aload_n 0, 1) := dk_42 (dk_at dksX5_passes_3 19 rfl rfl)
theorem dX5_passes_91 : decode cX5_passes 91 = .ok (.dup, 1) := dk_89 (dk_at dksX5_passes_3 20 rfl rfl)
theorem dX5_passes_92 : decode cX5_passes 92 = .ok (.getfield 148, 3) := dk_180 0 148 (dk_at dksX5_passes_3 21 rfl rfl)
theorem dX5_passes_95 : decode cX5_passes 95 = .ok (.iconst 1, 1) := dk_4 (dk_at dksX5_passes_4 0 rfl rfl)
theorem dX5_passes_96 : decode cX5_passes 96 = .ok (.iload_n 3, 1) := dk_29 (dk_at dksX5_passes_4 1 rfl rfl)
theorem dX5_passes_97 : decode cX5_passes 97 = .ok (.ishl, 1) := dk_120 (dk_at dksX5_passes_4 2 rfl rfl)
theorem dX5_passes_98 : decode cX5_passes 98 = .ok (.ior, 1) := dk_128 (dk_at dksX5_passes_4 3 rfl rfl)
theorem dX5_passes_99 : decode cX5_passes 99 = .ok (.putfield 148, 3) := dk_181 0 148 (dk_at dksX5_passes_4 4 rfl rfl)
theorem dX5_passes_102 : decode cX5_passes 102 = .ok (.iinc 1 1, 3) := dk_132 1 1 (dk_at dksX5_passes_4 7 rfl rfl)
theorem dX5_passes_105 : decode cX5_passes 105 = .ok (.iinc 2 1, 3) := dk_132 2 1 (dk_at dksX5_passes_4 10 rfl rfl)
theorem dX5_passes_108 : decode cX5_passes 108 = .ok (.goto (-99), 3) := dk_167 255 157 (dk_at dksX5_passes_4 13 rfl rfl)
theorem dX5_passes_111 : decode cX5_passes 111 = .ok (.iconst 0, 1) := dk_3 (dk_at dksX5_passes_4 16 rfl rfl)
theorem dX5_passes_112 : decode cX5_passes 112 = .ok (.istore_n 2, 1) := dk_61 (dk_at dksX5_passes_4 17 rfl rfl)
theorem dX5_passes_113 : decode cX5_passes 113 = .ok (.iload_n 2, 1) := dk_28 (dk_at dksX5_passes_4 18 rfl rfl)
theorem dX5_passes_114 : decode cX5_passes 114 = .ok (.aload_n 0, 1) := dk_42 (dk_at dksX5_passes_4 19 rfl rfl)
theorem dX5_passes_115 : decode cX5_passes 115 = .ok (.getfield 3, 3) := dk_180 0 3 (dk_at dksX5_passes_4 20 rfl rfl)
theorem dX5_passes_118 : decode cX5_passes 118 = .ok (.invokevirtual 151, 3) := dk_182 0 151 (dk_at dksX5_passes_5 0 rfl rfl)
theorem dX5_passes_121 : decode cX5_passes 121 = .ok (.if_icmp .gt 114, 3) := dk_163 0 114 (dk_at dksX5_passes_5 3 rfl rfl)
theorem dX5_passes_124 : decode cX5_passes 124 = .ok (.aload_n 0, 1) := dk_42 (dk_at dksX5_passes_5 6 rfl rfl)
theorem dX5_passes_125 : decode cX5_passes 125 = .ok (.getfield 3, 3) := dk_180 0 3 (dk_at dksX5_passes_5 7 rfl rfl)
theorem dX5_passes_128 : decode cX5_passes 128 = .ok (.getfield 41, 3) := dk_180 0 41 (dk_at dksX5_passes_5 10 rfl rfl)
theorem dX5_passes_131 : decode cX5_passes 131 = .ok (.getfield 166, 3) := dk_180 0 166 (dk_at dksX5_passes_5 13 rfl rfl)
theorem dX5_passes_134 : decode cX5_passes 134 = .ok (.ifnull 101, 3) := dk_198 0 101 (dk_at dksX5_passes_5 16 rfl rfl)
theorem dX5_passes_137 : decode cX5_passes 137 = .ok (.iconst 0, 1) := dk_3 (dk_at dksX5_passes_5 19 rfl rfl)
theorem dX5_passes_138 : decode cX5_passes 138 = .ok (.istore_n 3, 1) := dk_62 (dk_at dksX5_passes_5 20 rfl rfl)
theorem dX5_passes_139 : decode cX5_passes 139 = .ok (.iload_n 3, 1) := dk_29 (dk_at dksX5_passes_5 21 rfl rfl)
theorem dX5_passes_140 : decode cX5_passes 140 = .ok (.aload_n 0, 1) := dk_42 (dk_at dksX5_passes_5 22 rfl rfl)
theorem dX5_passes_141 : decode cX5_passes 141 = .ok (.getfield 3, 3) := dk_180 0 3 (dk_at dksX5_passes_6 0 rfl rfl)
theorem dX5_passes_144 : decode cX5_passes 144 = .ok (.invokevirtual 58, 3) := dk_182 0 58 (dk_at dksX5_passes_6 3 rfl rfl)
theorem dX5_passes_147 : decode cX5_passes 147 = .ok (.if_icmp .ge 82, 3) := dk_162 0 82 (dk_at dksX5_passes_6 6 rfl rfl)
theorem dX5_passes_150 : decode cX5_passes 150 = .ok (.aload_n 0, 1) := dk_42 (dk_at dksX5_passes_6 9 rfl rfl)
theorem dX5_passes_151 : decode cX5_passes 151 = .ok (.getfield 3, 3) := dk_180 0 3 (dk_at dksX5_passes_6 10 rfl rfl)
theorem dX5_passes_154 : decode cX5_passes 154 = .ok (.getfield 81, 3) := dk_180 0 81 (dk_at dksX5_passes_6 13 rfl rfl)
theorem dX5_passes_157 : decode cX5_passes 157 = .ok (.getfield 85, 3) := dk_180 0 85 (dk_at dksX5_passes_6 16 rfl rfl)
theorem dX5_passes_160 : decode cX5_passes 160 = .ok (.iconst 0, 1) := dk_3 (dk_at dksX5_passes_6 19 rfl rfl)
theorem dX5_passes_161 : decode cX5_passes 161 = .ok (.aload_n 0, 1) := dk_42 (dk_at dksX5_passes_6 20 rfl rfl)
theorem dX5_passes_162 : decode cX5_passes 162 = .ok (.getfield 37, 3) := dk_180 0 37 (dk_at dksX5_passes_6 21 rfl rfl)
theorem dX5_passes_165 : decode cX5_passes 165 = .ok (.bipush 24, 2) := dk_16 24 (dk_at dksX5_passes_7 0 rfl rfl)
theorem dX5_passes_167 : decode cX5_passes 167 = .ok (.irem, 1) := dk_112 (dk_at dksX5_passes_7 2 rfl rfl)
theorem dX5_passes_168 : decode cX5_passes 168 = .ok (.i2l, 1) := dk_133 (dk_at dksX5_passes_7 3 rfl rfl)
theorem dX5_passes_169 : decode cX5_passes 169 = .ok (.lastore, 1) := dk_80 (dk_at dksX5_passes_7 4 rfl rfl)
theorem dX5_passes_170 : decode cX5_passes 170 = .ok (.aload_n 0, 1) := dk_42 (dk_at dksX5_passes_7 5 rfl rfl)
theorem dX5_passes_171 : decode cX5_passes 171 = .ok (.getfield 3, 3) := dk_180 0 3 (dk_at dksX5_passes_7 6 rfl rfl)
theorem dX5_passes_174 : decode cX5_passes 174 = .ok (.getfield 81, 3) := dk_180 0 81 (dk_at dksX5_passes_7 9 rfl rfl)
theorem dX5_passes_177 : decode cX5_passes 177 = .ok (.getfield 85, 3) := dk_180 0 85 (dk_at dksX5_passes_7 12 rfl rfl)
theorem dX5_passes_180 : decode cX5_passes 180 = .ok (.iconst 1, 1) := dk_4 (dk_at dksX5_passes_7 15 rfl rfl)
theorem dX5_passes_181 : decode cX5_passes 181 = .ok (.aload_n 0, 1) := dk_42 (dk_at dksX5_passes_7 16 rfl rfl)
theorem dX5_passes_182 : decode cX5_passes 182 = .ok (.getfield 17, 3) := dk_180 0 17 (dk_at dksX5_passes_7 17 rfl rfl)
theorem dX5_passes_185 : decode cX5_passes 185 = .ok (.iload_n 2, 1) := dk_28 (dk_at dksX5_passes_7 20 rfl rfl)
theorem dX5_passes_186 : decode cX5_passes 186 = .ok (.aaload, 1) := dk_50 (dk_at dksX5_passes_7 21 rfl rfl)
theorem dX5_passes_187 : decode cX5_passes 187 = .ok (.iload_n 3, 1) := dk_29 (dk_at dksX5_passes_7 22 rfl rfl)
theorem dX5_passes_188 : decode cX5_passes 188 = .ok (.iaload, 1) := dk_46 (dk_at dksX5_passes_7 23 rfl rfl)
theorem dX5_passes_189 : decode cX5_passes 189 = .ok (.i2l, 1) := dk_133 (dk_at dksX5_passes_8 0 rfl rfl)
theorem dX5_passes_190 : decode cX5_passes 190 = .ok (.lastore, 1) := dk_80 (dk_at dksX5_passes_8 1 rfl rfl)
theorem dX5_passes_191 : decode cX5_passes 191 = .ok (.aload_n 0, 1) := dk_42 (dk_at dksX5_passes_8 2 rfl rfl)
theorem dX5_passes_192 : decode cX5_passes 192 = .ok (.getfield 17, 3) := dk_180 0 17 (dk_at dksX5_passes_8 3 rfl rfl)
theorem dX5_passes_195 : decode cX5_passes 195 = .ok (.iload_n 2, 1) := dk_28 (dk_at dksX5_passes_8 6 rfl rfl)
theorem dX5_passes_196 : decode cX5_passes 196 = .ok (.aaload, 1) := dk_50 (dk_at dksX5_passes_8 7 rfl rfl)
theorem dX5_passes_197 : decode cX5_passes 197 = .ok (.iload_n 3, 1) := dk_29 (dk_at dksX5_passes_8 8 rfl rfl)
theorem dX5_passes_198 : decode cX5_passes 198 = .ok (.aload_n 0, 1) := dk_42 (dk_at dksX5_passes_8 9 rfl rfl)
theorem dX5_passes_199 : decode cX5_passes 199 = .ok (.aload_n 0, 1) := dk_42 (dk_at dksX5_passes_8 10 rfl rfl)
theorem dX5_passes_200 : decode cX5_passes 200 = .ok (.getfield 3, 3) := dk_180 0 3 (dk_at dksX5_passes_8 11 rfl rfl)
theorem dX5_passes_203 : decode cX5_passes 203 = .ok (.getfield 41, 3) := dk_180 0 41 (dk_at dksX5_passes_8 14 rfl rfl)
theorem dX5_passes_206 : decode cX5_passes 206 = .ok (.getfield 166, 3) := dk_180 0 166 (dk_at dksX5_passes_8 17 rfl rfl)
theorem dX5_passes_209 : decode cX5_passes 209 = .ok (.aload_n 0, 1) := dk_42 (dk_at dksX5_passes_8 20 rfl rfl)
theorem dX5_passes_210 : decode cX5_passes 210 = .ok (.getfield 3, 3) := dk_180 0 3 (dk_at dksX5_passes_8 21 rfl rfl)
theorem dX5_passes_213 : decode cX5_passes 213 = .ok (.getfield 81, 3) := dk_180 0 81 (dk_at dksX5_passes_9 0 rfl rfl)
theorem dX5_passes_216 : decode cX5_passes 216 = .ok (.invokevirtual 124, 3) := dk_182 0 124 (dk_at dksX5_passes_9 3 rfl rfl)
theorem dX5_passes_219 : decode cX5_passes 219 = .ok (.invokevirtual 130, 3) := dk_182 0 130 (dk_at dksX5_passes_9 6 rfl rfl)
theorem dX5_passes_222 : decode cX5_passes 222 = .ok (.iastore, 1) := dk_79 (dk_at dksX5_passes_9 9 rfl rfl)
theorem dX5_passes_223 : decode cX5_passes 223 = .ok (.iinc 3 1, 3) := dk_132 3 1 (dk_at dksX5_passes_9 10 rfl rfl)
theorem dX5_passes_226 : decode cX5_passes 226 = .ok (.goto (-87), 3) := dk_167 255 169 (dk_at dksX5_passes_9 13 rfl rfl)
theorem dX5_passes_229 : decode cX5_passes 229 = .ok (.iinc 2 1, 3) := dk_132 2 1 (dk_at dksX5_passes_9 16 rfl rfl)
theorem dX5_passes_232 : decode cX5_passes 232 = .ok (.goto (-119), 3) := dk_167 255 137 (dk_at dksX5_passes_9 19 rfl rfl)
theorem dX5_passes_235 : decode cX5_passes 235 = .ok (.aload_n 0, 1) := dk_42 (dk_at dksX5_passes_9 22 rfl rfl)
theorem dX5_passes_236 : decode cX5_passes 236 = .ok (.dup, 1) := dk_89 (dk_at dksX5_passes_9 23 rfl rfl)
theorem dX5_passes_237 : decode cX5_passes 237 = .ok (.getfield 37, 3) := dk_180 0 37 (dk_at dksX5_passes_10 0 rfl rfl)
theorem dX5_passes_240 : decode cX5_passes 240 = .ok (.iconst 1, 1) := dk_4 (dk_at dksX5_passes_10 3 rfl rfl)
theorem dX5_passes_241 : decode cX5_passes 241 = .ok (.iadd, 1) := dk_96 (dk_at dksX5_passes_10 4 rfl rfl)
theorem dX5_passes_242 : decode cX5_passes 242 = .ok (.putfield 37, 3) := dk_181 0 37 (dk_at dksX5_passes_10 5 rfl rfl)
theorem dX5_passes_245 : decode cX5_passes 245 = .ok (.iload_n 1, 1) := dk_27 (dk_at dksX5_passes_10 8 rfl rfl)
theorem dX5_passes_246 : decode cX5_passes 246 = .ok (.ireturn, 1) := dk_172 (dk_at dksX5_passes_10 9 rfl rfl)
abbrev cX5_sees : ByteArray := prog_18_method_12_code
def yX5_sees : MethodName := ⟨RX5, "sees", "(II)I"⟩
def dkwX5_sees_3 : List UInt8 := [100, 62, 42, 180, 0, 30, 27, 92, 47, 29, 133, 97, 80, 29, 172]
abbrev dktX5_sees_3 : List UInt8 := dkwX5_sees_3 ++ []
def dkwX5_sees_2 : List UInt8 := [180, 0, 50, 27, 184, 0, 54, 153, 0, 16, 42, 180, 0, 3, 180, 0, 41, 180, 0, 145, 167, 0, 4, 3]
abbrev dktX5_sees_2 : List UInt8 := dkwX5_sees_2 ++ dktX5_sees_3
def dkwX5_sees_1 : List UInt8 := [42, 180, 0, 23, 27, 46, 4, 96, 184, 0, 140, 79, 42, 180, 0, 3, 27, 28, 182, 0, 142, 42]
abbrev dktX5_sees_1 : List UInt8 := dkwX5_sees_1 ++ dktX5_sees_2
def dkwX5_sees_0 : List UInt8 := [42, 27, 28, 182, 0, 134, 42, 42, 27, 182, 0, 100, 28, 182, 0, 138, 42, 180, 0, 23, 27, 17, 39, 15]
abbrev dktX5_sees_0 : List UInt8 := dkwX5_sees_0 ++ dktX5_sees_1
theorem dksX5_sees_0 : cX5_sees.data.toList.drop 0 = dktX5_sees_0 := by decide +kernel
theorem dksX5_sees_1 : cX5_sees.data.toList.drop 24 = dktX5_sees_1 := dk_seg dksX5_sees_0 24 rfl rfl
theorem dksX5_sees_2 : cX5_sees.data.toList.drop 46 = dktX5_sees_2 := dk_seg dksX5_sees_1 22 rfl rfl
theorem dksX5_sees_3 : cX5_sees.data.toList.drop 70 = dktX5_sees_3 := dk_seg dksX5_sees_2 24 rfl rfl
theorem dX5_sees_0 : decode cX5_sees 0 = .ok (.aload_n 0, 1) := dk_42 (dk_at dksX5_sees_0 0 rfl rfl)
theorem dX5_sees_1 : decode cX5_sees 1 = .ok (.iload_n 1, 1) := dk_27 (dk_at dksX5_sees_0 1 rfl rfl)
theorem dX5_sees_2 : decode cX5_sees 2 = .ok (.iload_n 2, 1) := dk_28 (dk_at dksX5_sees_0 2 rfl rfl)
theorem dX5_sees_3 : decode cX5_sees 3 = .ok (.invokevirtual 134, 3) := dk_182 0 134 (dk_at dksX5_sees_0 3 rfl rfl)
theorem dX5_sees_6 : decode cX5_sees 6 = .ok (.aload_n 0, 1) := dk_42 (dk_at dksX5_sees_0 6 rfl rfl)
theorem dX5_sees_7 : decode cX5_sees 7 = .ok (.aload_n 0, 1) := dk_42 (dk_at dksX5_sees_0 7 rfl rfl)
theorem dX5_sees_8 : decode cX5_sees 8 = .ok (.iload_n 1, 1) := dk_27 (dk_at dksX5_sees_0 8 rfl rfl)
theorem dX5_sees_9 : decode cX5_sees 9 = .ok (.invokevirtual 100, 3) := dk_182 0 100 (dk_at dksX5_sees_0 9 rfl rfl)
theorem dX5_sees_12 : decode cX5_sees 12 = .ok (.iload_n 2, 1) := dk_28 (dk_at dksX5_sees_0 12 rfl rfl)
theorem dX5_sees_13 : decode cX5_sees 13 = .ok (.invokevirtual 138, 3) := dk_182 0 138 (dk_at dksX5_sees_0 13 rfl rfl)
theorem dX5_sees_16 : decode cX5_sees 16 = .ok (.aload_n 0, 1) := dk_42 (dk_at dksX5_sees_0 16 rfl rfl)
theorem dX5_sees_17 : decode cX5_sees 17 = .ok (.getfield 23, 3) := dk_180 0 23 (dk_at dksX5_sees_0 17 rfl rfl)
theorem dX5_sees_20 : decode cX5_sees 20 = .ok (.iload_n 1, 1) := dk_27 (dk_at dksX5_sees_0 20 rfl rfl)
theorem dX5_sees_21 : decode cX5_sees 21 = .ok (.sipush 9999, 3) := dk_17 39 15 (dk_at dksX5_sees_0 21 rfl rfl)
theorem dX5_sees_24 : decode cX5_sees 24 = .ok (.aload_n 0, 1) := dk_42 (dk_at dksX5_sees_1 0 rfl rfl)
theorem dX5_sees_25 : decode cX5_sees 25 = .ok (.getfield 23, 3) := dk_180 0 23 (dk_at dksX5_sees_1 1 rfl rfl)
theorem dX5_sees_28 : decode cX5_sees 28 = .ok (.iload_n 1, 1) := dk_27 (dk_at dksX5_sees_1 4 rfl rfl)
theorem dX5_sees_29 : decode cX5_sees 29 = .ok (.iaload, 1) := dk_46 (dk_at dksX5_sees_1 5 rfl rfl)
theorem dX5_sees_30 : decode cX5_sees 30 = .ok (.iconst 1, 1) := dk_4 (dk_at dksX5_sees_1 6 rfl rfl)
theorem dX5_sees_31 : decode cX5_sees 31 = .ok (.iadd, 1) := dk_96 (dk_at dksX5_sees_1 7 rfl rfl)
theorem dX5_sees_32 : decode cX5_sees 32 = .ok (.invokestatic 140, 3) := dk_184 0 140 (dk_at dksX5_sees_1 8 rfl rfl)
theorem dX5_sees_35 : decode cX5_sees 35 = .ok (.iastore, 1) := dk_79 (dk_at dksX5_sees_1 11 rfl rfl)
theorem dX5_sees_36 : decode cX5_sees 36 = .ok (.aload_n 0, 1) := dk_42 (dk_at dksX5_sees_1 12 rfl rfl)
theorem dX5_sees_37 : decode cX5_sees 37 = .ok (.getfield 3, 3) := dk_180 0 3 (dk_at dksX5_sees_1 13 rfl rfl)
theorem dX5_sees_40 : decode cX5_sees 40 = .ok (.iload_n 1, 1) := dk_27 (dk_at dksX5_sees_1 16 rfl rfl)
theorem dX5_sees_41 : decode cX5_sees 41 = .ok (.iload_n 2, 1) := dk_28 (dk_at dksX5_sees_1 17 rfl rfl)
theorem dX5_sees_42 : decode cX5_sees 42 = .ok (.invokevirtual 142, 3) := dk_182 0 142 (dk_at dksX5_sees_1 18 rfl rfl)
theorem dX5_sees_45 : decode cX5_sees 45 = .ok (.aload_n 0, 1) := dk_42 (dk_at dksX5_sees_1 21 rfl rfl)
theorem dX5_sees_46 : decode cX5_sees 46 = .ok (.getfield 50, 3) := dk_180 0 50 (dk_at dksX5_sees_2 0 rfl rfl)
theorem dX5_sees_49 : decode cX5_sees 49 = .ok (.iload_n 1, 1) := dk_27 (dk_at dksX5_sees_2 3 rfl rfl)
theorem dX5_sees_50 : decode cX5_sees 50 = .ok (.invokestatic 54, 3) := dk_184 0 54 (dk_at dksX5_sees_2 4 rfl rfl)
theorem dX5_sees_53 : decode cX5_sees 53 = .ok (.ifCond .eq 16, 3) := dk_153 0 16 (dk_at dksX5_sees_2 7 rfl rfl)
theorem dX5_sees_56 : decode cX5_sees 56 = .ok (.aload_n 0, 1) := dk_42 (dk_at dksX5_sees_2 10 rfl rfl)
theorem dX5_sees_57 : decode cX5_sees 57 = .ok (.getfield 3, 3) := dk_180 0 3 (dk_at dksX5_sees_2 11 rfl rfl)
theorem dX5_sees_60 : decode cX5_sees 60 = .ok (.getfield 41, 3) := dk_180 0 41 (dk_at dksX5_sees_2 14 rfl rfl)
theorem dX5_sees_63 : decode cX5_sees 63 = .ok (.getfield 145, 3) := dk_180 0 145 (dk_at dksX5_sees_2 17 rfl rfl)
theorem dX5_sees_66 : decode cX5_sees 66 = .ok (.goto 4, 3) := dk_167 0 4 (dk_at dksX5_sees_2 20 rfl rfl)
theorem dX5_sees_69 : decode cX5_sees 69 = .ok (.iconst 0, 1) := dk_3 (dk_at dksX5_sees_2 23 rfl rfl)
theorem dX5_sees_70 : decode cX5_sees 70 = .ok (.isub, 1) := dk_100 (dk_at dksX5_sees_3 0 rfl rfl)
theorem dX5_sees_71 : decode cX5_sees 71 = .ok (.istore_n 3, 1) := dk_62 (dk_at dksX5_sees_3 1 rfl rfl)
theorem dX5_sees_72 : decode cX5_sees 72 = .ok (.aload_n 0, 1) := dk_42 (dk_at dksX5_sees_3 2 rfl rfl)
theorem dX5_sees_73 : decode cX5_sees 73 = .ok (.getfield 30, 3) := dk_180 0 30 (dk_at dksX5_sees_3 3 rfl rfl)
theorem dX5_sees_76 : decode cX5_sees 76 = .ok (.iload_n 1, 1) := dk_27 (dk_at dksX5_sees_3 6 rfl rfl)
theorem dX5_sees_77 : decode cX5_sees 77 = .ok (.dup2, 1) := dk_92 (dk_at dksX5_sees_3 7 rfl rfl)
theorem dX5_sees_78 : decode cX5_sees 78 = .ok (.laload, 1) := dk_47 (dk_at dksX5_sees_3 8 rfl rfl)
theorem dX5_sees_79 : decode cX5_sees 79 = .ok (.iload_n 3, 1) := dk_29 (dk_at dksX5_sees_3 9 rfl rfl)
theorem dX5_sees_80 : decode cX5_sees 80 = .ok (.i2l, 1) := dk_133 (dk_at dksX5_sees_3 10 rfl rfl)
theorem dX5_sees_81 : decode cX5_sees 81 = .ok (.ladd, 1) := dk_97 (dk_at dksX5_sees_3 11 rfl rfl)
theorem dX5_sees_82 : decode cX5_sees 82 = .ok (.lastore, 1) := dk_80 (dk_at dksX5_sees_3 12 rfl rfl)
theorem dX5_sees_83 : decode cX5_sees 83 = .ok (.iload_n 3, 1) := dk_29 (dk_at dksX5_sees_3 13 rfl rfl)
theorem dX5_sees_84 : decode cX5_sees 84 = .ok (.ireturn, 1) := dk_172 (dk_at dksX5_sees_3 14 rfl rfl)
abbrev cX5_tells : ByteArray := prog_18_method_9_code
def yX5_tells : MethodName := ⟨RX5, "tells", "(II)V"⟩
def dkwX5_tells_5 : List UInt8 := [79, 42, 180, 0, 27, 42, 180, 0, 51, 50, 6, 28, 79, 42, 89, 180, 0, 51, 4, 96, 181, 0, 51, 177]
abbrev dktX5_tells_5 : List UInt8 := dkwX5_tells_5 ++ []
def dkwX5_tells_4 : List UInt8 := [180, 0, 51, 50, 4, 42, 180, 0, 37, 16, 24, 112, 79, 42, 180, 0, 27, 42, 180, 0, 51, 50, 5, 27]
abbrev dktX5_tells_4 : List UInt8 := dkwX5_tells_4 ++ dktX5_tells_5
def dkwX5_tells_3 : List UInt8 := [180, 0, 27, 42, 180, 0, 51, 50, 3, 42, 180, 0, 37, 16, 24, 108, 79, 42, 180, 0, 27, 42]
abbrev dktX5_tells_3 : List UInt8 := dkwX5_tells_3 ++ dktX5_tells_4
def dkwX5_tells_2 : List UInt8 := [167, 255, 230, 42, 180, 0, 27, 16, 39, 45, 83, 42, 89, 180, 0, 51, 4, 100, 181, 0, 51, 42]
abbrev dktX5_tells_2 : List UInt8 := dkwX5_tells_2 ++ dktX5_tells_3
def dkwX5_tells_1 : List UInt8 := [162, 0, 25, 42, 180, 0, 27, 21, 4, 4, 100, 42, 180, 0, 27, 21, 4, 50, 83, 132, 4, 1]
abbrev dktX5_tells_1 : List UInt8 := dkwX5_tells_1 ++ dktX5_tells_2
def dkwX5_tells_0 : List UInt8 := [42, 180, 0, 51, 16, 40, 160, 0, 60, 42, 180, 0, 27, 3, 50, 78, 4, 54, 4, 21, 4, 16, 40]
abbrev dktX5_tells_0 : List UInt8 := dkwX5_tells_0 ++ dktX5_tells_1
theorem dksX5_tells_0 : cX5_tells.data.toList.drop 0 = dktX5_tells_0 := by decide +kernel
theorem dksX5_tells_1 : cX5_tells.data.toList.drop 23 = dktX5_tells_1 := dk_seg dksX5_tells_0 23 rfl rfl
theorem dksX5_tells_2 : cX5_tells.data.toList.drop 45 = dktX5_tells_2 := dk_seg dksX5_tells_1 22 rfl rfl
theorem dksX5_tells_3 : cX5_tells.data.toList.drop 67 = dktX5_tells_3 := dk_seg dksX5_tells_2 22 rfl rfl
theorem dksX5_tells_4 : cX5_tells.data.toList.drop 89 = dktX5_tells_4 := dk_seg dksX5_tells_3 22 rfl rfl
theorem dksX5_tells_5 : cX5_tells.data.toList.drop 113 = dktX5_tells_5 := dk_seg dksX5_tells_4 24 rfl rfl
theorem dX5_tells_0 : decode cX5_tells 0 = .ok (.aload_n 0, 1) := dk_42 (dk_at dksX5_tells_0 0 rfl rfl)
theorem dX5_tells_1 : decode cX5_tells 1 = .ok (.getfield 51, 3) := dk_180 0 51 (dk_at dksX5_tells_0 1 rfl rfl)
theorem dX5_tells_4 : decode cX5_tells 4 = .ok (.bipush 40, 2) := dk_16 40 (dk_at dksX5_tells_0 4 rfl rfl)
theorem dX5_tells_6 : decode cX5_tells 6 = .ok (.if_icmp .ne 60, 3) := dk_160 0 60 (dk_at dksX5_tells_0 6 rfl rfl)
theorem dX5_tells_9 : decode cX5_tells 9 = .ok (.aload_n 0, 1) := dk_42 (dk_at dksX5_tells_0 9 rfl rfl)
theorem dX5_tells_10 : decode cX5_tells 10 = .ok (.getfield 27, 3) := dk_180 0 27 (dk_at dksX5_tells_0 10 rfl rfl)
theorem dX5_tells_13 : decode cX5_tells 13 = .ok (.iconst 0, 1) := dk_3 (dk_at dksX5_tells_0 13 rfl rfl)
theorem dX5_tells_14 : decode cX5_tells 14 = .ok (.aaload, 1) := dk_50 (dk_at dksX5_tells_0 14 rfl rfl)
theorem dX5_tells_15 : decode cX5_tells 15 = .ok (.astore_n 3, 1) := dk_78 (dk_at dksX5_tells_0 15 rfl rfl)
theorem dX5_tells_16 : decode cX5_tells 16 = .ok (.iconst 1, 1) := dk_4 (dk_at dksX5_tells_0 16 rfl rfl)
theorem dX5_tells_17 : decode cX5_tells 17 = .ok (.istore 4, 2) := dk_54 4 (dk_at dksX5_tells_0 17 rfl rfl)
theorem dX5_tells_19 : decode cX5_tells 19 = .ok (.iload 4, 2) := dk_21 4 (dk_at dksX5_tells_0 19 rfl rfl)
theorem dX5_tells_21 : decode cX5_tells 21 = .ok (.bipush 40, 2) := dk_16 40 (dk_at dksX5_tells_0 21 rfl rfl)
theorem dX5_tells_23 : decode cX5_tells 23 = .ok (.if_icmp .ge 25, 3) := dk_162 0 25 (dk_at dksX5_tells_1 0 rfl rfl)
theorem dX5_tells_26 : decode cX5_tells 26 = .ok (.aload_n 0, 1) := dk_42 (dk_at dksX5_tells_1 3 rfl rfl)
theorem dX5_tells_27 : decode cX5_tells 27 = .ok (.getfield 27, 3) := dk_180 0 27 (dk_at dksX5_tells_1 4 rfl rfl)
theorem dX5_tells_30 : decode cX5_tells 30 = .ok (.iload 4, 2) := dk_21 4 (dk_at dksX5_tells_1 7 rfl rfl)
theorem dX5_tells_32 : decode cX5_tells 32 = .ok (.iconst 1, 1) := dk_4 (dk_at dksX5_tells_1 9 rfl rfl)
theorem dX5_tells_33 : decode cX5_tells 33 = .ok (.isub, 1) := dk_100 (dk_at dksX5_tells_1 10 rfl rfl)
theorem dX5_tells_34 : decode cX5_tells 34 = .ok (.aload_n 0, 1) := dk_42 (dk_at dksX5_tells_1 11 rfl rfl)
theorem dX5_tells_35 : decode cX5_tells 35 = .ok (.getfield 27, 3) := dk_180 0 27 (dk_at dksX5_tells_1 12 rfl rfl)
theorem dX5_tells_38 : decode cX5_tells 38 = .ok (.iload 4, 2) := dk_21 4 (dk_at dksX5_tells_1 15 rfl rfl)
theorem dX5_tells_40 : decode cX5_tells 40 = .ok (.aaload, 1) := dk_50 (dk_at dksX5_tells_1 17 rfl rfl)
theorem dX5_tells_41 : decode cX5_tells 41 = .ok (.aastore, 1) := dk_83 (dk_at dksX5_tells_1 18 rfl rfl)
theorem dX5_tells_42 : decode cX5_tells 42 = .ok (.iinc 4 1, 3) := dk_132 4 1 (dk_at dksX5_tells_1 19 rfl rfl)
theorem dX5_tells_45 : decode cX5_tells 45 = .ok (.goto (-26), 3) := dk_167 255 230 (dk_at dksX5_tells_2 0 rfl rfl)
theorem dX5_tells_48 : decode cX5_tells 48 = .ok (.aload_n 0, 1) := dk_42 (dk_at dksX5_tells_2 3 rfl rfl)
theorem dX5_tells_49 : decode cX5_tells 49 = .ok (.getfield 27, 3) := dk_180 0 27 (dk_at dksX5_tells_2 4 rfl rfl)
theorem dX5_tells_52 : decode cX5_tells 52 = .ok (.bipush 39, 2) := dk_16 39 (dk_at dksX5_tells_2 7 rfl rfl)
theorem dX5_tells_54 : decode cX5_tells 54 = .ok (.aload_n 3, 1) := dk_45 (dk_at dksX5_tells_2 9 rfl rfl)
theorem dX5_tells_55 : decode cX5_tells 55 = .ok (.aastore, 1) := dk_83 (dk_at dksX5_tells_2 10 rfl rfl)
theorem dX5_tells_56 : decode cX5_tells 56 = .ok (.aload_n 0, 1) := dk_42 (dk_at dksX5_tells_2 11 rfl rfl)
theorem dX5_tells_57 : decode cX5_tells 57 = .ok (.dup, 1) := dk_89 (dk_at dksX5_tells_2 12 rfl rfl)
theorem dX5_tells_58 : decode cX5_tells 58 = .ok (.getfield 51, 3) := dk_180 0 51 (dk_at dksX5_tells_2 13 rfl rfl)
theorem dX5_tells_61 : decode cX5_tells 61 = .ok (.iconst 1, 1) := dk_4 (dk_at dksX5_tells_2 16 rfl rfl)
theorem dX5_tells_62 : decode cX5_tells 62 = .ok (.isub, 1) := dk_100 (dk_at dksX5_tells_2 17 rfl rfl)
theorem dX5_tells_63 : decode cX5_tells 63 = .ok (.putfield 51, 3) := dk_181 0 51 (dk_at dksX5_tells_2 18 rfl rfl)
theorem dX5_tells_66 : decode cX5_tells 66 = .ok (.aload_n 0, 1) := dk_42 (dk_at dksX5_tells_2 21 rfl rfl)
theorem dX5_tells_67 : decode cX5_tells 67 = .ok (.getfield 27, 3) := dk_180 0 27 (dk_at dksX5_tells_3 0 rfl rfl)
theorem dX5_tells_70 : decode cX5_tells 70 = .ok (.aload_n 0, 1) := dk_42 (dk_at dksX5_tells_3 3 rfl rfl)
theorem dX5_tells_71 : decode cX5_tells 71 = .ok (.getfield 51, 3) := dk_180 0 51 (dk_at dksX5_tells_3 4 rfl rfl)
theorem dX5_tells_74 : decode cX5_tells 74 = .ok (.aaload, 1) := dk_50 (dk_at dksX5_tells_3 7 rfl rfl)
theorem dX5_tells_75 : decode cX5_tells 75 = .ok (.iconst 0, 1) := dk_3 (dk_at dksX5_tells_3 8 rfl rfl)
theorem dX5_tells_76 : decode cX5_tells 76 = .ok (.aload_n 0, 1) := dk_42 (dk_at dksX5_tells_3 9 rfl rfl)
theorem dX5_tells_77 : decode cX5_tells 77 = .ok (.getfield 37, 3) := dk_180 0 37 (dk_at dksX5_tells_3 10 rfl rfl)
theorem dX5_tells_80 : decode cX5_tells 80 = .ok (.bipush 24, 2) := dk_16 24 (dk_at dksX5_tells_3 13 rfl rfl)
theorem dX5_tells_82 : decode cX5_tells 82 = .ok (.idiv, 1) := dk_108 (dk_at dksX5_tells_3 15 rfl rfl)
theorem dX5_tells_83 : decode cX5_tells 83 = .ok (.iastore, 1) := dk_79 (dk_at dksX5_tells_3 16 rfl rfl)
theorem dX5_tells_84 : decode cX5_tells 84 = .ok (.aload_n 0, 1) := dk_42 (dk_at dksX5_tells_3 17 rfl rfl)
theorem dX5_tells_85 : decode cX5_tells 85 = .ok (.getfield 27, 3) := dk_180 0 27 (dk_at dksX5_tells_3 18 rfl rfl)
theorem dX5_tells_88 : decode cX5_tells 88 = .ok (.aload_n 0, 1) := dk_42 (dk_at dksX5_tells_3 21 rfl rfl)
theorem dX5_tells_89 : decode cX5_tells 89 = .ok (.getfield 51, 3) := dk_180 0 51 (dk_at dksX5_tells_4 0 rfl rfl)
theorem dX5_tells_92 : decode cX5_tells 92 = .ok (.aaload, 1) := dk_50 (dk_at dksX5_tells_4 3 rfl rfl)
theorem dX5_tells_93 : decode cX5_tells 93 = .ok (.iconst 1, 1) := dk_4 (dk_at dksX5_tells_4 4 rfl rfl)
theorem dX5_tells_94 : decode cX5_tells 94 = .ok (.aload_n 0, 1) := dk_42 (dk_at dksX5_tells_4 5 rfl rfl)
theorem dX5_tells_95 : decode cX5_tells 95 = .ok (.getfield 37, 3) := dk_180 0 37 (dk_at dksX5_tells_4 6 rfl rfl)
theorem dX5_tells_98 : decode cX5_tells 98 = .ok (.bipush 24, 2) := dk_16 24 (dk_at dksX5_tells_4 9 rfl rfl)
theorem dX5_tells_100 : decode cX5_tells 100 = .ok (.irem, 1) := dk_112 (dk_at dksX5_tells_4 11 rfl rfl)
theorem dX5_tells_101 : decode cX5_tells 101 = .ok (.iastore, 1) := dk_79 (dk_at dksX5_tells_4 12 rfl rfl)
theorem dX5_tells_102 : decode cX5_tells 102 = .ok (.aload_n 0, 1) := dk_42 (dk_at dksX5_tells_4 13 rfl rfl)
theorem dX5_tells_103 : decode cX5_tells 103 = .ok (.getfield 27, 3) := dk_180 0 27 (dk_at dksX5_tells_4 14 rfl rfl)
theorem dX5_tells_106 : decode cX5_tells 106 = .ok (.aload_n 0, 1) := dk_42 (dk_at dksX5_tells_4 17 rfl rfl)
theorem dX5_tells_107 : decode cX5_tells 107 = .ok (.getfield 51, 3) := dk_180 0 51 (dk_at dksX5_tells_4 18 rfl rfl)
theorem dX5_tells_110 : decode cX5_tells 110 = .ok (.aaload, 1) := dk_50 (dk_at dksX5_tells_4 21 rfl rfl)
theorem dX5_tells_111 : decode cX5_tells 111 = .ok (.iconst 2, 1) := dk_5 (dk_at dksX5_tells_4 22 rfl rfl)
theorem dX5_tells_112 : decode cX5_tells 112 = .ok (.iload_n 1, 1) := dk_27 (dk_at dksX5_tells_4 23 rfl rfl)
theorem dX5_tells_113 : decode cX5_tells 113 = .ok (.iastore, 1) := dk_79 (dk_at dksX5_tells_5 0 rfl rfl)
theorem dX5_tells_114 : decode cX5_tells 114 = .ok (.aload_n 0, 1) := dk_42 (dk_at dksX5_tells_5 1 rfl rfl)
theorem dX5_tells_115 : decode cX5_tells 115 = .ok (.getfield 27, 3) := dk_180 0 27 (dk_at dksX5_tells_5 2 rfl rfl)
theorem dX5_tells_118 : decode cX5_tells 118 = .ok (.aload_n 0, 1) := dk_42 (dk_at dksX5_tells_5 5 rfl rfl)
theorem dX5_tells_119 : decode cX5_tells 119 = .ok (.getfield 51, 3) := dk_180 0 51 (dk_at dksX5_tells_5 6 rfl rfl)
theorem dX5_tells_122 : decode cX5_tells 122 = .ok (.aaload, 1) := dk_50 (dk_at dksX5_tells_5 9 rfl rfl)
theorem dX5_tells_123 : decode cX5_tells 123 = .ok (.iconst 3, 1) := dk_6 (dk_at dksX5_tells_5 10 rfl rfl)
theorem dX5_tells_124 : decode cX5_tells 124 = .ok (.iload_n 2, 1) := dk_28 (dk_at dksX5_tells_5 11 rfl rfl)
theorem dX5_tells_125 : decode cX5_tells 125 = .ok (.iastore, 1) := dk_79 (dk_at dksX5_tells_5 12 rfl rfl)
theorem dX5_tells_126 : decode cX5_tells 126 = .ok (.aload_n 0, 1) := dk_42 (dk_at dksX5_tells_5 13 rfl rfl)
theorem dX5_tells_127 : decode cX5_tells 127 = .ok (.dup, 1) := dk_89 (dk_at dksX5_tells_5 14 rfl rfl)
theorem dX5_tells_128 : decode cX5_tells 128 = .ok (.getfield 51, 3) := dk_180 0 51 (dk_at dksX5_tells_5 15 rfl rfl)
theorem dX5_tells_131 : decode cX5_tells 131 = .ok (.iconst 1, 1) := dk_4 (dk_at dksX5_tells_5 18 rfl rfl)
theorem dX5_tells_132 : decode cX5_tells 132 = .ok (.iadd, 1) := dk_96 (dk_at dksX5_tells_5 19 rfl rfl)
theorem dX5_tells_133 : decode cX5_tells 133 = .ok (.putfield 51, 3) := dk_181 0 51 (dk_at dksX5_tells_5 20 rfl rfl)
theorem dX5_tells_136 : decode cX5_tells 136 = .ok (.return_, 1) := dk_177 (dk_at dksX5_tells_5 23 rfl rfl)
abbrev cX5_learns : ByteArray := prog_18_method_11_code
def yX5_learns : MethodName := ⟨RX5, "learns", "(II)V"⟩
def dkwX5_learns_7 : List UInt8 := [133, 22, 5, 97, 182, 0, 130, 79, 132, 3, 1, 167, 255, 114, 177]
abbrev dktX5_learns_7 : List UInt8 := dkwX5_learns_7 ++ []
def dkwX5_learns_6 : List UInt8 := [182, 0, 124, 184, 0, 117, 55, 5, 42, 180, 0, 17, 27, 50, 29, 42, 42, 180, 0, 17, 27, 50, 29, 46]
abbrev dktX5_learns_6 : List UInt8 := dkwX5_learns_6 ++ dktX5_learns_7
def dkwX5_learns_5 : List UInt8 := [21, 4, 133, 167, 0, 27, 9, 42, 180, 0, 3, 180, 0, 41, 180, 0, 120, 42, 180, 0, 3, 180, 0, 81]
abbrev dktX5_learns_5 : List UInt8 := dkwX5_learns_5 ++ dktX5_learns_6
def dkwX5_learns_4 : List UInt8 := [180, 0, 81, 180, 0, 85, 5, 21, 4, 133, 80, 42, 180, 0, 3, 180, 0, 41, 180, 0, 120, 199, 0, 9]
abbrev dktX5_learns_4 : List UInt8 := dkwX5_learns_4 ++ dktX5_learns_5
def dkwX5_learns_3 : List UInt8 := [180, 0, 3, 180, 0, 81, 180, 0, 85, 4, 42, 180, 0, 17, 27, 50, 29, 46, 133, 80, 42, 180, 0, 3]
abbrev dktX5_learns_3 : List UInt8 := dkwX5_learns_3 ++ dktX5_learns_4
def dkwX5_learns_2 : List UInt8 := [180, 0, 3, 28, 182, 0, 62, 180, 0, 66, 29, 46, 54, 4, 21, 4, 154, 0, 6, 167, 0, 108, 42]
abbrev dktX5_learns_2 : List UInt8 := dkwX5_learns_2 ++ dktX5_learns_3
def dkwX5_learns_1 : List UInt8 := [180, 0, 37, 16, 24, 112, 133, 80, 3, 62, 29, 42, 180, 0, 3, 182, 0, 58, 162, 0, 137, 42]
abbrev dktX5_learns_1 : List UInt8 := dkwX5_learns_1 ++ dktX5_learns_2
def dkwX5_learns_0 : List UInt8 := [42, 180, 0, 20, 27, 50, 28, 92, 46, 4, 96, 79, 42, 180, 0, 3, 180, 0, 81, 180, 0, 85, 3, 42]
abbrev dktX5_learns_0 : List UInt8 := dkwX5_learns_0 ++ dktX5_learns_1
theorem dksX5_learns_0 : cX5_learns.data.toList.drop 0 = dktX5_learns_0 := by decide +kernel
theorem dksX5_learns_1 : cX5_learns.data.toList.drop 24 = dktX5_learns_1 := dk_seg dksX5_learns_0 24 rfl rfl
theorem dksX5_learns_2 : cX5_learns.data.toList.drop 46 = dktX5_learns_2 := dk_seg dksX5_learns_1 22 rfl rfl
theorem dksX5_learns_3 : cX5_learns.data.toList.drop 69 = dktX5_learns_3 := dk_seg dksX5_learns_2 23 rfl rfl
theorem dksX5_learns_4 : cX5_learns.data.toList.drop 93 = dktX5_learns_4 := dk_seg dksX5_learns_3 24 rfl rfl
theorem dksX5_learns_5 : cX5_learns.data.toList.drop 117 = dktX5_learns_5 := dk_seg dksX5_learns_4 24 rfl rfl
theorem dksX5_learns_6 : cX5_learns.data.toList.drop 141 = dktX5_learns_6 := dk_seg dksX5_learns_5 24 rfl rfl
theorem dksX5_learns_7 : cX5_learns.data.toList.drop 165 = dktX5_learns_7 := dk_seg dksX5_learns_6 24 rfl rfl
theorem dX5_learns_0 : decode cX5_learns 0 = .ok (.aload_n 0, 1) := dk_42 (dk_at dksX5_learns_0 0 rfl rfl)
theorem dX5_learns_1 : decode cX5_learns 1 = .ok (.getfield 20, 3) := dk_180 0 20 (dk_at dksX5_learns_0 1 rfl rfl)
theorem dX5_learns_4 : decode cX5_learns 4 = .ok (.iload_n 1, 1) := dk_27 (dk_at dksX5_learns_0 4 rfl rfl)
theorem dX5_learns_5 : decode cX5_learns 5 = .ok (.aaload, 1) := dk_50 (dk_at dksX5_learns_0 5 rfl rfl)
theorem dX5_learns_6 : decode cX5_learns 6 = .ok (.iload_n 2, 1) := dk_28 (dk_at dksX5_learns_0 6 rfl rfl)
theorem dX5_learns_7 : decode cX5_learns 7 = .ok (.dup2, 1) := dk_92 (dk_at dksX5_learns_0 7 rfl rfl)
theorem dX5_learns_8 : decode cX5_learns 8 = .ok (.iaload, 1) := dk_46 (dk_at dksX5_learns_0 8 rfl rfl)
theorem dX5_learns_9 : decode cX5_learns 9 = .ok (.iconst 1, 1) := dk_4 (dk_at dksX5_learns_0 9 rfl rfl)
theorem dX5_learns_10 : decode cX5_learns 10 = .ok (.iadd, 1) := dk_96 (dk_at dksX5_learns_0 10 rfl rfl)
theorem dX5_learns_11 : decode cX5_learns 11 = .ok (.iastore, 1) := dk_79 (dk_at dksX5_learns_0 11 rfl rfl)
theorem dX5_learns_12 : decode cX5_learns 12 = .ok (.aload_n 0, 1) := dk_42 (dk_at dksX5_learns_0 12 rfl rfl)
theorem dX5_learns_13 : decode cX5_learns 13 = .ok (.getfield 3, 3) := dk_180 0 3 (dk_at dksX5_learns_0 13 rfl rfl)
theorem dX5_learns_16 : decode cX5_learns 16 = .ok (.getfield 81, 3) := dk_180 0 81 (dk_at dksX5_learns_0 16 rfl rfl)
theorem dX5_learns_19 : decode cX5_learns 19 = .ok (.getfield 85, 3) := dk_180 0 85 (dk_at dksX5_learns_0 19 rfl rfl)
theorem dX5_learns_22 : decode cX5_learns 22 = .ok (.iconst 0, 1) := dk_3 (dk_at dksX5_learns_0 22 rfl rfl)
theorem dX5_learns_23 : decode cX5_learns 23 = .ok (.aload_n 0, 1) := dk_42 (dk_at dksX5_learns_0 23 rfl rfl)
theorem dX5_learns_24 : decode cX5_learns 24 = .ok (.getfield 37, 3) := dk_180 0 37 (dk_at dksX5_learns_1 0 rfl rfl)
theorem dX5_learns_27 : decode cX5_learns 27 = .ok (.bipush 24, 2) := dk_16 24 (dk_at dksX5_learns_1 3 rfl rfl)
theorem dX5_learns_29 : decode cX5_learns 29 = .ok (.irem, 1) := dk_112 (dk_at dksX5_learns_1 5 rfl rfl)
theorem dX5_learns_30 : decode cX5_learns 30 = .ok (.i2l, 1) := dk_133 (dk_at dksX5_learns_1 6 rfl rfl)
theorem dX5_learns_31 : decode cX5_learns 31 = .ok (.lastore, 1) := dk_80 (dk_at dksX5_learns_1 7 rfl rfl)
theorem dX5_learns_32 : decode cX5_learns 32 = .ok (.iconst 0, 1) := dk_3 (dk_at dksX5_learns_1 8 rfl rfl)
theorem dX5_learns_33 : decode cX5_learns 33 = .ok (.istore_n 3, 1) := dk_62 (dk_at dksX5_learns_1 9 rfl rfl)
theorem dX5_learns_34 : decode cX5_learns 34 = .ok (.iload_n 3, 1) := dk_29 (dk_at dksX5_learns_1 10 rfl rfl)
theorem dX5_learns_35 : decode cX5_learns 35 = .ok (.aload_n 0, 1) := dk_42 (dk_at dksX5_learns_1 11 rfl rfl)
theorem dX5_learns_36 : decode cX5_learns 36 = .ok (.getfield 3, 3) := dk_180 0 3 (dk_at dksX5_learns_1 12 rfl rfl)
theorem dX5_learns_39 : decode cX5_learns 39 = .ok (.invokevirtual 58, 3) := dk_182 0 58 (dk_at dksX5_learns_1 15 rfl rfl)
theorem dX5_learns_42 : decode cX5_learns 42 = .ok (.if_icmp .ge 137, 3) := dk_162 0 137 (dk_at dksX5_learns_1 18 rfl rfl)
theorem dX5_learns_45 : decode cX5_learns 45 = .ok (.aload_n 0, 1) := dk_42 (dk_at dksX5_learns_1 21 rfl rfl)
theorem dX5_learns_46 : decode cX5_learns 46 = .ok (.getfield 3, 3) := dk_180 0 3 (dk_at dksX5_learns_2 0 rfl rfl)
theorem dX5_learns_49 : decode cX5_learns 49 = .ok (.iload_n 2, 1) := dk_28 (dk_at dksX5_learns_2 3 rfl rfl)
theorem dX5_learns_50 : decode cX5_learns 50 = .ok (.invokevirtual 62, 3) := dk_182 0 62 (dk_at dksX5_learns_2 4 rfl rfl)
theorem dX5_learns_53 : decode cX5_learns 53 = .ok (.getfield 66, 3) := dk_180 0 66 (dk_at dksX5_learns_2 7 rfl rfl)
theorem dX5_learns_56 : decode cX5_learns 56 = .ok (.iload_n 3, 1) := dk_29 (dk_at dksX5_learns_2 10 rfl rfl)
theorem dX5_learns_57 : decode cX5_learns 57 = .ok (.iaload, 1) := dk_46 (dk_at dksX5_learns_2 11 rfl rfl)
theorem dX5_learns_58 : decode cX5_learns 58 = .ok (.istore 4, 2) := dk_54 4 (dk_at dksX5_learns_2 12 rfl rfl)
theorem dX5_learns_60 : decode cX5_learns 60 = .ok (.iload 4, 2) := dk_21 4 (dk_at dksX5_learns_2 14 rfl rfl)
theorem dX5_learns_62 : decode cX5_learns 62 = .ok (.ifCond .ne 6, 3) := dk_154 0 6 (dk_at dksX5_learns_2 16 rfl rfl)
theorem dX5_learns_65 : decode cX5_learns 65 = .ok (.goto 108, 3) := dk_167 0 108 (dk_at dksX5_learns_2 19 rfl rfl)
theorem dX5_learns_68 : decode cX5_learns 68 = .ok (.aload_n 0, 1) := dk_42 (dk_at dksX5_learns_2 22 rfl rfl)
theorem dX5_learns_69 : decode cX5_learns 69 = .ok (.getfield 3, 3) := dk_180 0 3 (dk_at dksX5_learns_3 0 rfl rfl)
theorem dX5_learns_72 : decode cX5_learns 72 = .ok (.getfield 81, 3) := dk_180 0 81 (dk_at dksX5_learns_3 3 rfl rfl)
theorem dX5_learns_75 : decode cX5_learns 75 = .ok (.getfield 85, 3) := dk_180 0 85 (dk_at dksX5_learns_3 6 rfl rfl)
theorem dX5_learns_78 : decode cX5_learns 78 = .ok (.iconst 1, 1) := dk_4 (dk_at dksX5_learns_3 9 rfl rfl)
theorem dX5_learns_79 : decode cX5_learns 79 = .ok (.aload_n 0, 1) := dk_42 (dk_at dksX5_learns_3 10 rfl rfl)
theorem dX5_learns_80 : decode cX5_learns 80 = .ok (.getfield 17, 3) := dk_180 0 17 (dk_at dksX5_learns_3 11 rfl rfl)
theorem dX5_learns_83 : decode cX5_learns 83 = .ok (.iload_n 1, 1) := dk_27 (dk_at dksX5_learns_3 14 rfl rfl)
theorem dX5_learns_84 : decode cX5_learns 84 = .ok (.aaload, 1) := dk_50 (dk_at dksX5_learns_3 15 rfl rfl)
theorem dX5_learns_85 : decode cX5_learns 85 = .ok (.iload_n 3, 1) := dk_29 (dk_at dksX5_learns_3 16 rfl rfl)
theorem dX5_learns_86 : decode cX5_learns 86 = .ok (.iaload, 1) := dk_46 (dk_at dksX5_learns_3 17 rfl rfl)
theorem dX5_learns_87 : decode cX5_learns 87 = .ok (.i2l, 1) := dk_133 (dk_at dksX5_learns_3 18 rfl rfl)
theorem dX5_learns_88 : decode cX5_learns 88 = .ok (.lastore, 1) := dk_80 (dk_at dksX5_learns_3 19 rfl rfl)
theorem dX5_learns_89 : decode cX5_learns 89 = .ok (.aload_n 0, 1) := dk_42 (dk_at dksX5_learns_3 20 rfl rfl)
theorem dX5_learns_90 : decode cX5_learns 90 = .ok (.getfield 3, 3) := dk_180 0 3 (dk_at dksX5_learns_3 21 rfl rfl)
theorem dX5_learns_93 : decode cX5_learns 93 = .ok (.getfield 81, 3) := dk_180 0 81 (dk_at dksX5_learns_4 0 rfl rfl)
theorem dX5_learns_96 : decode cX5_learns 96 = .ok (.getfield 85, 3) := dk_180 0 85 (dk_at dksX5_learns_4 3 rfl rfl)
theorem dX5_learns_99 : decode cX5_learns 99 = .ok (.iconst 2, 1) := dk_5 (dk_at dksX5_learns_4 6 rfl rfl)
theorem dX5_learns_100 : decode cX5_learns 100 = .ok (.iload 4, 2) := dk_21 4 (dk_at dksX5_learns_4 7 rfl rfl)
theorem dX5_learns_102 : decode cX5_learns 102 = .ok (.i2l, 1) := dk_133 (dk_at dksX5_learns_4 9 rfl rfl)
theorem dX5_learns_103 : decode cX5_learns 103 = .ok (.lastore, 1) := dk_80 (dk_at dksX5_learns_4 10 rfl rfl)
theorem dX5_learns_104 : decode cX5_learns 104 = .ok (.aload_n 0, 1) := dk_42 (dk_at dksX5_learns_4 11 rfl rfl)
theorem dX5_learns_105 : decode cX5_learns 105 = .ok (.getfield 3, 3) := dk_180 0 3 (dk_at dksX5_learns_4 12 rfl rfl)
theorem dX5_learns_108 : decode cX5_learns 108 = .ok (.getfield 41, 3) := dk_180 0 41 (dk_at dksX5_learns_4 15 rfl rfl)
theorem dX5_learns_111 : decode cX5_learns 111 = .ok (.getfield 120, 3) := dk_180 0 120 (dk_at dksX5_learns_4 18 rfl rfl)
theorem dX5_learns_114 : decode cX5_learns 114 = .ok (.ifnonnull 9, 3) := dk_199 0 9 (dk_at dksX5_learns_4 21 rfl rfl)
theorem dX5_learns_117 : decode cX5_learns 117 = .ok (.iload 4, 2) := dk_21 4 (dk_at dksX5_learns_5 0 rfl rfl)
theorem dX5_learns_119 : decode cX5_learns 119 = .ok (.i2l, 1) := dk_133 (dk_at dksX5_learns_5 2 rfl rfl)
theorem dX5_learns_120 : decode cX5_learns 120 = .ok (.goto 27, 3) := dk_167 0 27 (dk_at dksX5_learns_5 3 rfl rfl)
theorem dX5_learns_123 : decode cX5_learns 123 = .ok (.lconst 0, 1) := dk_9 (dk_at dksX5_learns_5 6 rfl rfl)
theorem dX5_learns_124 : decode cX5_learns 124 = .ok (.aload_n 0, 1) := dk_42 (dk_at dksX5_learns_5 7 rfl rfl)
theorem dX5_learns_125 : decode cX5_learns 125 = .ok (.getfield 3, 3) := dk_180 0 3 (dk_at dksX5_learns_5 8 rfl rfl)
theorem dX5_learns_128 : decode cX5_learns 128 = .ok (.getfield 41, 3) := dk_180 0 41 (dk_at dksX5_learns_5 11 rfl rfl)
theorem dX5_learns_131 : decode cX5_learns 131 = .ok (.getfield 120, 3) := dk_180 0 120 (dk_at dksX5_learns_5 14 rfl rfl)
theorem dX5_learns_134 : decode cX5_learns 134 = .ok (.aload_n 0, 1) := dk_42 (dk_at dksX5_learns_5 17 rfl rfl)
theorem dX5_learns_135 : decode cX5_learns 135 = .ok (.getfield 3, 3) := dk_180 0 3 (dk_at dksX5_learns_5 18 rfl rfl)
theorem dX5_learns_138 : decode cX5_learns 138 = .ok (.getfield 81, 3) := dk_180 0 81 (dk_at dksX5_learns_5 21 rfl rfl)
theorem dX5_learns_141 : decode cX5_learns 141 = .ok (.invokevirtual 124, 3) := dk_182 0 124 (dk_at dksX5_learns_6 0 rfl rfl)
theorem dX5_learns_144 : decode cX5_learns 144 = .ok (.invokestatic 117, 3) := dk_184 0 117 (dk_at dksX5_learns_6 3 rfl rfl)
theorem dX5_learns_147 : decode cX5_learns 147 = .ok (.lstore 5, 2) := dk_55 5 (dk_at dksX5_learns_6 6 rfl rfl)
theorem dX5_learns_149 : decode cX5_learns 149 = .ok (.aload_n 0, 1) := dk_42 (dk_at dksX5_learns_6 8 rfl rfl)
theorem dX5_learns_150 : decode cX5_learns 150 = .ok (.getfield 17, 3) := dk_180 0 17 (dk_at dksX5_learns_6 9 rfl rfl)
theorem dX5_learns_153 : decode cX5_learns 153 = .ok (.iload_n 1, 1) := dk_27 (dk_at dksX5_learns_6 12 rfl rfl)
theorem dX5_learns_154 : decode cX5_learns 154 = .ok (.aaload, 1) := dk_50 (dk_at dksX5_learns_6 13 rfl rfl)
theorem dX5_learns_155 : decode cX5_learns 155 = .ok (.iload_n 3, 1) := dk_29 (dk_at dksX5_learns_6 14 rfl rfl)
theorem dX5_learns_156 : decode cX5_learns 156 = .ok (.aload_n 0, 1) := dk_42 (dk_at dksX5_learns_6 15 rfl rfl)
theorem dX5_learns_157 : decode cX5_learns 157 = .ok (.aload_n 0, 1) := dk_42 (dk_at dksX5_learns_6 16 rfl rfl)
theorem dX5_learns_158 : decode cX5_learns 158 = .ok (.getfield 17, 3) := dk_180 0 17 (dk_at dksX5_learns_6 17 rfl rfl)
theorem dX5_learns_161 : decode cX5_learns 161 = .ok (.iload_n 1, 1) := dk_27 (dk_at dksX5_learns_6 20 rfl rfl)
theorem dX5_learns_162 : decode cX5_learns 162 = .ok (.aaload, 1) := dk_50 (dk_at dksX5_learns_6 21 rfl rfl)
theorem dX5_learns_163 : decode cX5_learns 163 = .ok (.iload_n 3, 1) := dk_29 (dk_at dksX5_learns_6 22 rfl rfl)
theorem dX5_learns_164 : decode cX5_learns 164 = .ok (.iaload, 1) := dk_46 (dk_at dksX5_learns_6 23 rfl rfl)
theorem dX5_learns_165 : decode cX5_learns 165 = .ok (.i2l, 1) := dk_133 (dk_at dksX5_learns_7 0 rfl rfl)
theorem dX5_learns_166 : decode cX5_learns 166 = .ok (.lload 5, 2) := dk_22 5 (dk_at dksX5_learns_7 1 rfl rfl)
theorem dX5_learns_168 : decode cX5_learns 168 = .ok (.ladd, 1) := dk_97 (dk_at dksX5_learns_7 3 rfl rfl)
theorem dX5_learns_169 : decode cX5_learns 169 = .ok (.invokevirtual 130, 3) := dk_182 0 130 (dk_at dksX5_learns_7 4 rfl rfl)
theorem dX5_learns_172 : decode cX5_learns 172 = .ok (.iastore, 1) := dk_79 (dk_at dksX5_learns_7 7 rfl rfl)
theorem dX5_learns_173 : decode cX5_learns 173 = .ok (.iinc 3 1, 3) := dk_132 3 1 (dk_at dksX5_learns_7 8 rfl rfl)
theorem dX5_learns_176 : decode cX5_learns 176 = .ok (.goto (-142), 3) := dk_167 255 114 (dk_at dksX5_learns_7 11 rfl rfl)
theorem dX5_learns_179 : decode cX5_learns 179 = .ok (.return_, 1) := dk_177 (dk_at dksX5_learns_7 14 rfl rfl)
abbrev cX5_cut : ByteArray := prog_18_method_10_code
def yX5_cut : MethodName := ⟨RX5, "cut", "(J)I"⟩
def dkwX5_cut_0 : List UInt8 := [9, 20, 0, 109, 31, 184, 0, 111, 184, 0, 117, 136, 172]
abbrev dktX5_cut_0 : List UInt8 := dkwX5_cut_0 ++ []
theorem dksX5_cut_0 : cX5_cut.data.toList.drop 0 = dktX5_cut_0 := by decide +kernel
theorem dX5_cut_0 : decode cX5_cut 0 = .ok (.lconst 0, 1) := dk_9 (dk_at dksX5_cut_0 0 rfl rfl)
theorem dX5_cut_1 : decode cX5_cut 1 = .ok (.ldc2_w 109, 3) := dk_20 0 109 (dk_at dksX5_cut_0 1 rfl rfl)
theorem dX5_cut_4 : decode cX5_cut 4 = .ok (.lload_n 1, 1) := dk_31 (dk_at dksX5_cut_0 4 rfl rfl)
theorem dX5_cut_5 : decode cX5_cut 5 = .ok (.invokestatic 111, 3) := dk_184 0 111 (dk_at dksX5_cut_0 5 rfl rfl)
theorem dX5_cut_8 : decode cX5_cut 8 = .ok (.invokestatic 117, 3) := dk_184 0 117 (dk_at dksX5_cut_0 8 rfl rfl)
theorem dX5_cut_11 : decode cX5_cut 11 = .ok (.l2i, 1) := dk_136 (dk_at dksX5_cut_0 11 rfl rfl)
theorem dX5_cut_12 : decode cX5_cut 12 = .ok (.ireturn, 1) := dk_172 (dk_at dksX5_cut_0 12 rfl rfl)
abbrev cX5_isStranger : ByteArray := prog_18_method_13_code
def yX5_isStranger : MethodName := ⟨RX5, "isStranger", "(I)Z"⟩
def dkwX5_isStranger_1 : List UInt8 := [4, 172]
abbrev dktX5_isStranger_1 : List UInt8 := dkwX5_isStranger_1 ++ []
def dkwX5_isStranger_0 : List UInt8 := [42, 3, 27, 182, 0, 74, 153, 0, 5, 3, 172, 42, 16, 9, 27, 182, 0, 134, 42, 3, 27, 182, 0, 138]
abbrev dktX5_isStranger_0 : List UInt8 := dkwX5_isStranger_0 ++ dktX5_isStranger_1
theorem dksX5_isStranger_0 : cX5_isStranger.data.toList.drop 0 = dktX5_isStranger_0 := by decide +kernel
theorem dksX5_isStranger_1 : cX5_isStranger.data.toList.drop 24 = dktX5_isStranger_1 := dk_seg dksX5_isStranger_0 24 rfl rfl
theorem dX5_isStranger_0 : decode cX5_isStranger 0 = .ok (.aload_n 0, 1) := dk_42 (dk_at dksX5_isStranger_0 0 rfl rfl)
theorem dX5_isStranger_1 : decode cX5_isStranger 1 = .ok (.iconst 0, 1) := dk_3 (dk_at dksX5_isStranger_0 1 rfl rfl)
theorem dX5_isStranger_2 : decode cX5_isStranger 2 = .ok (.iload_n 1, 1) := dk_27 (dk_at dksX5_isStranger_0 2 rfl rfl)
theorem dX5_isStranger_3 : decode cX5_isStranger 3 = .ok (.invokevirtual 74, 3) := dk_182 0 74 (dk_at dksX5_isStranger_0 3 rfl rfl)
theorem dX5_isStranger_6 : decode cX5_isStranger 6 = .ok (.ifCond .eq 5, 3) := dk_153 0 5 (dk_at dksX5_isStranger_0 6 rfl rfl)
theorem dX5_isStranger_9 : decode cX5_isStranger 9 = .ok (.iconst 0, 1) := dk_3 (dk_at dksX5_isStranger_0 9 rfl rfl)
theorem dX5_isStranger_10 : decode cX5_isStranger 10 = .ok (.ireturn, 1) := dk_172 (dk_at dksX5_isStranger_0 10 rfl rfl)
theorem dX5_isStranger_11 : decode cX5_isStranger 11 = .ok (.aload_n 0, 1) := dk_42 (dk_at dksX5_isStranger_0 11 rfl rfl)
theorem dX5_isStranger_12 : decode cX5_isStranger 12 = .ok (.bipush 9, 2) := dk_16 9 (dk_at dksX5_isStranger_0 12 rfl rfl)
theorem dX5_isStranger_14 : decode cX5_isStranger 14 = .ok (.iload_n 1, 1) := dk_27 (dk_at dksX5_isStranger_0 14 rfl rfl)
theorem dX5_isStranger_15 : decode cX5_isStranger 15 = .ok (.invokevirtual 134, 3) := dk_182 0 134 (dk_at dksX5_isStranger_0 15 rfl rfl)
theorem dX5_isStranger_18 : decode cX5_isStranger 18 = .ok (.aload_n 0, 1) := dk_42 (dk_at dksX5_isStranger_0 18 rfl rfl)
theorem dX5_isStranger_19 : decode cX5_isStranger 19 = .ok (.iconst 0, 1) := dk_3 (dk_at dksX5_isStranger_0 19 rfl rfl)
theorem dX5_isStranger_20 : decode cX5_isStranger 20 = .ok (.iload_n 1, 1) := dk_27 (dk_at dksX5_isStranger_0 20 rfl rfl)
theorem dX5_isStranger_21 : decode cX5_isStranger 21 = .ok (.invokevirtual 138, 3) := dk_182 0 138 (dk_at dksX5_isStranger_0 21 rfl rfl)
theorem dX5_isStranger_24 : decode cX5_isStranger 24 = .ok (.iconst 1, 1) := dk_4 (dk_at dksX5_isStranger_1 0 rfl rfl)
theorem dX5_isStranger_25 : decode cX5_isStranger 25 = .ok (.ireturn, 1) := dk_172 (dk_at dksX5_isStranger_1 1 rfl rfl)
theorem q178 : (Jvm.Cond.initialized "FourOnOne$State") ∈ lw_all := lw_g (lw_at lw_m1 12 rfl) rfl
theorem q251 : (Jvm.Cond.fieldLinkNest "FourOnOne$State" (45 : Nat) "FourOnOne$House" "presses" "I" "FourOnOne") ∈ lw_tbl := lw_at lw_m1 85 rfl
theorem q254 : (Jvm.Cond.fieldLinkNest "FourOnOne$State" (160 : Nat) "FourOnOne$House" "screens" "I" "FourOnOne") ∈ lw_tbl := lw_at lw_m1 88 rfl
theorem q259 : (Jvm.Cond.fieldLinkNest "FourOnOne$State" (145 : Nat) "FourOnOne$House" "bother" "I" "FourOnOne") ∈ lw_tbl := lw_at lw_m1 93 rfl
theorem q272 : (Jvm.Cond.fieldLinkNest "FourOnOne$State" (120 : Nat) "FourOnOne$House" "learns" "LFourOnOne$Value;" "FourOnOne") ∈ lw_tbl := lw_at lw_m1 106 rfl
theorem q274 : (Jvm.Cond.fieldLinkNest "FourOnOne$State" (166 : Nat) "FourOnOne$House" "fades" "LFourOnOne$Value;" "FourOnOne") ∈ lw_tbl := lw_at lw_m1 108 rfl
theorem q276 : (Jvm.Cond.fieldLinkNest "FourOnOne$State" (77 : Nat) "FourOnOne$House" "may" "LFourOnOne$Test;" "FourOnOne") ∈ lw_tbl := lw_at lw_m1 110 rfl
theorem q415 : (Jvm.Cond.fieldLinkNest "FourOnOne$State" (85 : Nat) "FourOnOne$Moment" "of" "[J" "FourOnOne") ∈ lw_tbl := lw_at lw_m2 9 rfl
theorem q422 : (Jvm.Cond.instantiable "FourOnOne$State" (11 : Nat)) ∈ lw_all := lw_g (lw_at lw_m2 16 rfl) rfl
theorem q424 : (Jvm.Cond.instanceMethod ({ cls := "FourOnOne$State", name := "<init>", desc := "(LFourOnOne;)V" } : Jvm.MethodName)) ∈ lw_all := lw_g (lw_at lw_m2 18 rfl) rfl
theorem q425 : (Jvm.Cond.code ({ cls := "FourOnOne$State", name := "<init>", desc := "(LFourOnOne;)V" } : Jvm.MethodName) prog_18_method_1_code (2 : Nat) (Option.none : Option Jvm.ClassFile.FieldType)) ∈ lw_all := lw_g (lw_at lw_m2 19 rfl) rfl
theorem q426 : (Jvm.Cond.methodLink "FourOnOne$State" (9 : Nat) ({ cls := "java/lang/Object", name := "<init>", desc := "()V" } : Jvm.MethodName)) ∈ lw_all := lw_g (lw_at lw_m2 20 rfl) rfl
theorem q427 : (Jvm.Cond.classLink "FourOnOne$State" (15 : Nat) "[[I") ∈ lw_all := lw_g (lw_at lw_m2 21 rfl) rfl
theorem q429 : (Jvm.Cond.fieldLink "FourOnOne$State" (37 : Nat) "FourOnOne$State" "hour" "I") ∈ lw_all := lw_g (lw_at lw_m2 23 rfl) rfl
theorem q431 : (Jvm.Cond.fieldLink "FourOnOne$State" (50 : Nat) "FourOnOne$State" "presses" "I") ∈ lw_all := lw_g (lw_at lw_m2 25 rfl) rfl
theorem q433 : (Jvm.Cond.fieldLink "FourOnOne$State" (51 : Nat) "FourOnOne$State" "keeps" "I") ∈ lw_all := lw_g (lw_at lw_m2 27 rfl) rfl
theorem q435 : (Jvm.Cond.fieldLink "FourOnOne$State" (17 : Nat) "FourOnOne$State" "taste" "[[I") ∈ lw_all := lw_g (lw_at lw_m2 29 rfl) rfl
theorem q437 : (Jvm.Cond.fieldLink "FourOnOne$State" (20 : Nat) "FourOnOne$State" "seen" "[[I") ∈ lw_all := lw_g (lw_at lw_m2 31 rfl) rfl
theorem q439 : (Jvm.Cond.fieldLink "FourOnOne$State" (23 : Nat) "FourOnOne$State" "saw" "[I") ∈ lw_all := lw_g (lw_at lw_m2 33 rfl) rfl
theorem q441 : (Jvm.Cond.fieldLink "FourOnOne$State" (27 : Nat) "FourOnOne$State" "rows" "[[I") ∈ lw_all := lw_g (lw_at lw_m2 35 rfl) rfl
theorem q443 : (Jvm.Cond.fieldLink "FourOnOne$State" (30 : Nat) "FourOnOne$State" "pleased" "[J") ∈ lw_all := lw_g (lw_at lw_m2 37 rfl) rfl
theorem q445 : (Jvm.Cond.fieldLink "FourOnOne$State" (34 : Nat) "FourOnOne$State" "refused" "[I") ∈ lw_all := lw_g (lw_at lw_m2 39 rfl) rfl
theorem q447 : (Jvm.Cond.fieldLink "FourOnOne$State" (148 : Nat) "FourOnOne$State" "seenNow" "I") ∈ lw_all := lw_g (lw_at lw_m2 41 rfl) rfl
theorem q449 : (Jvm.Cond.fieldLink "FourOnOne$State" (3 : Nat) "FourOnOne$State" "this$0" "LFourOnOne;") ∈ lw_all := lw_g (lw_at lw_m2 43 rfl) rfl
theorem q450 : (Jvm.Cond.lays "FourOnOne$State" "FourOnOne$State" "hour" "I") ∈ lw_all := lw_g (lw_at lw_m2 44 rfl) rfl
theorem q451 : (Jvm.Cond.soleField "FourOnOne$State" "hour") ∈ lw_all := lw_g (lw_at lw_m2 45 rfl) rfl
theorem q452 : (Jvm.Cond.lays "FourOnOne$State" "FourOnOne$State" "presses" "I") ∈ lw_all := lw_g (lw_at lw_m2 46 rfl) rfl
theorem q453 : (Jvm.Cond.soleField "FourOnOne$State" "presses") ∈ lw_all := lw_g (lw_at lw_m2 47 rfl) rfl
theorem q454 : (Jvm.Cond.lays "FourOnOne$State" "FourOnOne$State" "keeps" "I") ∈ lw_all := lw_g (lw_at lw_m2 48 rfl) rfl
theorem q455 : (Jvm.Cond.soleField "FourOnOne$State" "keeps") ∈ lw_all := lw_g (lw_at lw_m2 49 rfl) rfl
theorem q456 : (Jvm.Cond.laysFinal "FourOnOne$State" "FourOnOne$State" "taste" "[[I") ∈ lw_all := lw_g (lw_at lw_m2 50 rfl) rfl
theorem q457 : (Jvm.Cond.soleField "FourOnOne$State" "taste") ∈ lw_all := lw_g (lw_at lw_m2 51 rfl) rfl
theorem q458 : (Jvm.Cond.laysFinal "FourOnOne$State" "FourOnOne$State" "seen" "[[I") ∈ lw_all := lw_g (lw_at lw_m2 52 rfl) rfl
theorem q459 : (Jvm.Cond.soleField "FourOnOne$State" "seen") ∈ lw_all := lw_g (lw_at lw_m2 53 rfl) rfl
theorem q460 : (Jvm.Cond.laysFinal "FourOnOne$State" "FourOnOne$State" "saw" "[I") ∈ lw_all := lw_g (lw_at lw_m2 54 rfl) rfl
theorem q461 : (Jvm.Cond.soleField "FourOnOne$State" "saw") ∈ lw_all := lw_g (lw_at lw_m2 55 rfl) rfl
theorem q462 : (Jvm.Cond.laysFinal "FourOnOne$State" "FourOnOne$State" "rows" "[[I") ∈ lw_all := lw_g (lw_at lw_m2 56 rfl) rfl
theorem q463 : (Jvm.Cond.soleField "FourOnOne$State" "rows") ∈ lw_all := lw_g (lw_at lw_m2 57 rfl) rfl
theorem q464 : (Jvm.Cond.laysFinal "FourOnOne$State" "FourOnOne$State" "pleased" "[J") ∈ lw_all := lw_g (lw_at lw_m2 58 rfl) rfl
theorem q465 : (Jvm.Cond.soleField "FourOnOne$State" "pleased") ∈ lw_all := lw_g (lw_at lw_m2 59 rfl) rfl
theorem q466 : (Jvm.Cond.laysFinal "FourOnOne$State" "FourOnOne$State" "refused" "[I") ∈ lw_all := lw_g (lw_at lw_m2 60 rfl) rfl
theorem q467 : (Jvm.Cond.soleField "FourOnOne$State" "refused") ∈ lw_all := lw_g (lw_at lw_m2 61 rfl) rfl
theorem q468 : (Jvm.Cond.lays "FourOnOne$State" "FourOnOne$State" "seenNow" "I") ∈ lw_all := lw_g (lw_at lw_m2 62 rfl) rfl
theorem q469 : (Jvm.Cond.soleField "FourOnOne$State" "seenNow") ∈ lw_all := lw_g (lw_at lw_m2 63 rfl) rfl
theorem q470 : (Jvm.Cond.laysFinal "FourOnOne$State" "FourOnOne$State" "this$0" "LFourOnOne;") ∈ lw_all := lw_g (lw_at lw_m2 64 rfl) rfl
theorem q471 : (Jvm.Cond.soleField "FourOnOne$State" "this$0") ∈ lw_all := lw_g (lw_at lw_m2 65 rfl) rfl
theorem q472 : (Jvm.Cond.superclass "FourOnOne$State" "java/lang/Object") ∈ lw_all := lw_g (lw_at lw_m2 66 rfl) rfl
theorem q477 : (Jvm.Cond.fieldLinkNest "FourOnOne$State" (41 : Nat) "FourOnOne" "house" "LFourOnOne$House;" "FourOnOne") ∈ lw_tbl := lw_at lw_m2 71 rfl
theorem q485 : (Jvm.Cond.fieldLinkNest "FourOnOne$State" (81 : Nat) "FourOnOne" "moment" "LFourOnOne$Moment;" "FourOnOne") ∈ lw_tbl := lw_at lw_m2 79 rfl
theorem q884 : (Jvm.Cond.selects "FourOnOne$State" ({ cls := "java/lang/Object", name := "getClass", desc := "()Ljava/lang/Class;" } : Jvm.MethodName) ({ cls := "java/lang/Object", name := "getClass", desc := "()Ljava/lang/Class;" } : Jvm.MethodName)) ∈ lw_all := lw_g (lw_at lw_m3 238 rfl) rfl
theorem q931 : (Jvm.Cond.fieldLinkNest "FourOnOne$State" (71 : Nat) "FourOnOne$Film" "parts" "I" "FourOnOne") ∈ lw_tbl := lw_at lw_m4 45 rfl
theorem q934 : (Jvm.Cond.fieldLinkNest "FourOnOne$State" (66 : Nat) "FourOnOne$Film" "is" "[I" "FourOnOne") ∈ lw_tbl := lw_at lw_m4 48 rfl
theorem q1257 : (Jvm.Cond.instanceMethod ({ cls := "FourOnOne$State", name := "begins", desc := "()V" } : Jvm.MethodName)) ∈ lw_all := lw_g (lw_at lw_m5 131 rfl) rfl
theorem q1258 : (Jvm.Cond.selects "FourOnOne$State" ({ cls := "FourOnOne$State", name := "begins", desc := "()V" } : Jvm.MethodName) ({ cls := "FourOnOne$State", name := "begins", desc := "()V" } : Jvm.MethodName)) ∈ lw_all := lw_g (lw_at lw_m5 132 rfl) rfl
theorem q1259 : (Jvm.Cond.code ({ cls := "FourOnOne$State", name := "begins", desc := "()V" } : Jvm.MethodName) prog_18_method_2_code (3 : Nat) (Option.none : Option Jvm.ClassFile.FieldType)) ∈ lw_all := lw_g (lw_at lw_m5 133 rfl) rfl
theorem q1363 : (Jvm.Cond.instanceMethod ({ cls := "FourOnOne$State", name := "suggested", desc := "(I)I" } : Jvm.MethodName)) ∈ lw_all := lw_g (lw_at lw_m5 237 rfl) rfl
theorem q1364 : (Jvm.Cond.selects "FourOnOne$State" ({ cls := "FourOnOne$State", name := "suggested", desc := "(I)I" } : Jvm.MethodName) ({ cls := "FourOnOne$State", name := "suggested", desc := "(I)I" } : Jvm.MethodName)) ∈ lw_all := lw_g (lw_at lw_m5 238 rfl) rfl
theorem q1365 : (Jvm.Cond.code ({ cls := "FourOnOne$State", name := "suggested", desc := "(I)I" } : Jvm.MethodName) prog_18_method_8_code (5 : Nat) (Option.some Jvm.ClassFile.FieldType.int)) ∈ lw_all := lw_g (lw_at lw_m5 239 rfl) rfl
theorem q1366 : (Jvm.Cond.methodLink "FourOnOne$State" (100 : Nat) ({ cls := "FourOnOne$State", name := "profile", desc := "(I)I" } : Jvm.MethodName)) ∈ lw_all := lw_g (lw_at lw_m6 0 rfl) rfl
theorem q1367 : (Jvm.Cond.instanceMethod ({ cls := "FourOnOne$State", name := "profile", desc := "(I)I" } : Jvm.MethodName)) ∈ lw_all := lw_g (lw_at lw_m6 1 rfl) rfl
theorem q1368 : (Jvm.Cond.selects "FourOnOne$State" ({ cls := "FourOnOne$State", name := "profile", desc := "(I)I" } : Jvm.MethodName) ({ cls := "FourOnOne$State", name := "profile", desc := "(I)I" } : Jvm.MethodName)) ∈ lw_all := lw_g (lw_at lw_m6 2 rfl) rfl
theorem q1369 : (Jvm.Cond.code ({ cls := "FourOnOne$State", name := "profile", desc := "(I)I" } : Jvm.MethodName) prog_18_method_4_code (2 : Nat) (Option.some Jvm.ClassFile.FieldType.int)) ∈ lw_all := lw_g (lw_at lw_m6 3 rfl) rfl
theorem q1370 : (Jvm.Cond.methodLinkNest "FourOnOne$State" (54 : Nat) ({ cls := "FourOnOne", name := "has", desc := "(II)Z" } : Jvm.MethodName) "FourOnOne") ∈ lw_tbl := lw_at lw_m6 4 rfl
theorem q1371 : (Jvm.Cond.methodLinkNest "FourOnOne$State" (104 : Nat) ({ cls := "FourOnOne", name := "films", desc := "()I" } : Jvm.MethodName) "FourOnOne") ∈ lw_tbl := lw_at lw_m6 5 rfl
theorem q1372 : (Jvm.Cond.methodLink "FourOnOne$State" (107 : Nat) ({ cls := "FourOnOne$State", name := "may", desc := "(II)Z" } : Jvm.MethodName)) ∈ lw_all := lw_g (lw_at lw_m6 6 rfl) rfl
theorem q1373 : (Jvm.Cond.privateMethod ({ cls := "FourOnOne$State", name := "may", desc := "(II)Z" } : Jvm.MethodName)) ∈ lw_tbl := lw_at lw_m6 7 rfl
theorem q1374 : (Jvm.Cond.instanceMethod ({ cls := "FourOnOne$State", name := "may", desc := "(II)Z" } : Jvm.MethodName)) ∈ lw_all := lw_g (lw_at lw_m6 8 rfl) rfl
theorem q1375 : (Jvm.Cond.code ({ cls := "FourOnOne$State", name := "may", desc := "(II)Z" } : Jvm.MethodName) prog_18_method_7_code (3 : Nat) (Option.some Jvm.ClassFile.FieldType.boolean)) ∈ lw_all := lw_g (lw_at lw_m6 9 rfl) rfl
theorem q1376 : (Jvm.Cond.methodLink "FourOnOne$State" (74 : Nat) ({ cls := "FourOnOne$State", name := "isOver", desc := "(II)Z" } : Jvm.MethodName)) ∈ lw_all := lw_g (lw_at lw_m6 10 rfl) rfl
theorem q1377 : (Jvm.Cond.instanceMethod ({ cls := "FourOnOne$State", name := "isOver", desc := "(II)Z" } : Jvm.MethodName)) ∈ lw_all := lw_g (lw_at lw_m6 11 rfl) rfl
theorem q1378 : (Jvm.Cond.selects "FourOnOne$State" ({ cls := "FourOnOne$State", name := "isOver", desc := "(II)Z" } : Jvm.MethodName) ({ cls := "FourOnOne$State", name := "isOver", desc := "(II)Z" } : Jvm.MethodName)) ∈ lw_all := lw_g (lw_at lw_m6 12 rfl) rfl
theorem q1379 : (Jvm.Cond.code ({ cls := "FourOnOne$State", name := "isOver", desc := "(II)Z" } : Jvm.MethodName) prog_18_method_6_code (3 : Nat) (Option.some Jvm.ClassFile.FieldType.boolean)) ∈ lw_all := lw_g (lw_at lw_m6 13 rfl) rfl
theorem q1380 : (Jvm.Cond.methodLinkNest "FourOnOne$State" (62 : Nat) ({ cls := "FourOnOne", name := "filmOf", desc := "(I)LFourOnOne$Film;" } : Jvm.MethodName) "FourOnOne") ∈ lw_tbl := lw_at lw_m6 14 rfl
theorem q1381 : (Jvm.Cond.methodLink "FourOnOne$State" (90 : Nat) ({ cls := "FourOnOne$State", name := "score", desc := "(II)I" } : Jvm.MethodName)) ∈ lw_all := lw_g (lw_at lw_m6 15 rfl) rfl
theorem q1382 : (Jvm.Cond.instanceMethod ({ cls := "FourOnOne$State", name := "score", desc := "(II)I" } : Jvm.MethodName)) ∈ lw_all := lw_g (lw_at lw_m6 16 rfl) rfl
theorem q1383 : (Jvm.Cond.selects "FourOnOne$State" ({ cls := "FourOnOne$State", name := "score", desc := "(II)I" } : Jvm.MethodName) ({ cls := "FourOnOne$State", name := "score", desc := "(II)I" } : Jvm.MethodName)) ∈ lw_all := lw_g (lw_at lw_m6 17 rfl) rfl
theorem q1384 : (Jvm.Cond.code ({ cls := "FourOnOne$State", name := "score", desc := "(II)I" } : Jvm.MethodName) prog_18_method_5_code (5 : Nat) (Option.some Jvm.ClassFile.FieldType.int)) ∈ lw_all := lw_g (lw_at lw_m6 18 rfl) rfl
theorem q1385 : (Jvm.Cond.methodLinkNest "FourOnOne$State" (58 : Nat) ({ cls := "FourOnOne", name := "kinds", desc := "()I" } : Jvm.MethodName) "FourOnOne") ∈ lw_tbl := lw_at lw_m6 19 rfl
theorem q1386 : (Jvm.Cond.methodLink "FourOnOne$State" (94 : Nat) ({ cls := "FourOnOne$Test", name := "holds", desc := "(LFourOnOne$Moment;)Z" } : Jvm.MethodName)) ∈ lw_all := lw_g (lw_at lw_m6 20 rfl) rfl
theorem q1488 : (Jvm.Cond.instanceMethod ({ cls := "FourOnOne$State", name := "copy", desc := "(LFourOnOne$State;)LFourOnOne$State;" } : Jvm.MethodName)) ∈ lw_all := lw_g (lw_at lw_m6 122 rfl) rfl
theorem q1489 : (Jvm.Cond.selects "FourOnOne$State" ({ cls := "FourOnOne$State", name := "copy", desc := "(LFourOnOne$State;)LFourOnOne$State;" } : Jvm.MethodName) ({ cls := "FourOnOne$State", name := "copy", desc := "(LFourOnOne$State;)LFourOnOne$State;" } : Jvm.MethodName)) ∈ lw_all := lw_g (lw_at lw_m6 123 rfl) rfl
theorem q1490 : (Jvm.Cond.code ({ cls := "FourOnOne$State", name := "copy", desc := "(LFourOnOne$State;)LFourOnOne$State;" } : Jvm.MethodName) prog_18_method_3_code (4 : Nat) (Option.some (Jvm.ClassFile.FieldType.object "FourOnOne$State"))) ∈ lw_all := lw_g (lw_at lw_m6 124 rfl) rfl
theorem q1492 : (Jvm.Cond.instanceMethod ({ cls := "FourOnOne$State", name := "hours", desc := "(I)LFourOnOne$State;" } : Jvm.MethodName)) ∈ lw_all := lw_g (lw_at lw_m6 126 rfl) rfl
theorem q1493 : (Jvm.Cond.selects "FourOnOne$State" ({ cls := "FourOnOne$State", name := "hours", desc := "(I)LFourOnOne$State;" } : Jvm.MethodName) ({ cls := "FourOnOne$State", name := "hours", desc := "(I)LFourOnOne$State;" } : Jvm.MethodName)) ∈ lw_all := lw_g (lw_at lw_m6 127 rfl) rfl
theorem q1494 : (Jvm.Cond.code ({ cls := "FourOnOne$State", name := "hours", desc := "(I)LFourOnOne$State;" } : Jvm.MethodName) prog_18_method_15_code (3 : Nat) (Option.some (Jvm.ClassFile.FieldType.object "FourOnOne$State"))) ∈ lw_all := lw_g (lw_at lw_m6 128 rfl) rfl
theorem q1495 : (Jvm.Cond.methodLink "FourOnOne$State" (169 : Nat) ({ cls := "FourOnOne$State", name := "passes", desc := "()I" } : Jvm.MethodName)) ∈ lw_all := lw_g (lw_at lw_m6 129 rfl) rfl
theorem q1496 : (Jvm.Cond.instanceMethod ({ cls := "FourOnOne$State", name := "passes", desc := "()I" } : Jvm.MethodName)) ∈ lw_all := lw_g (lw_at lw_m6 130 rfl) rfl
theorem q1497 : (Jvm.Cond.selects "FourOnOne$State" ({ cls := "FourOnOne$State", name := "passes", desc := "()I" } : Jvm.MethodName) ({ cls := "FourOnOne$State", name := "passes", desc := "()I" } : Jvm.MethodName)) ∈ lw_all := lw_g (lw_at lw_m6 131 rfl) rfl
theorem q1498 : (Jvm.Cond.code ({ cls := "FourOnOne$State", name := "passes", desc := "()I" } : Jvm.MethodName) prog_18_method_14_code (4 : Nat) (Option.some Jvm.ClassFile.FieldType.int)) ∈ lw_all := lw_g (lw_at lw_m6 132 rfl) rfl
theorem q1499 : (Jvm.Cond.methodLinkNest "FourOnOne$State" (151 : Nat) ({ cls := "FourOnOne", name := "people", desc := "()I" } : Jvm.MethodName) "FourOnOne") ∈ lw_tbl := lw_at lw_m6 133 rfl
theorem q1500 : (Jvm.Cond.methodLinkNest "FourOnOne$State" (154 : Nat) ({ cls := "FourOnOne", name := "isFree", desc := "(II)Z" } : Jvm.MethodName) "FourOnOne") ∈ lw_tbl := lw_at lw_m6 134 rfl
theorem q1504 : (Jvm.Cond.methodLink "FourOnOne$State" (157 : Nat) ({ cls := "FourOnOne$State", name := "suggested", desc := "(I)I" } : Jvm.MethodName)) ∈ lw_all := lw_g (lw_at lw_m6 138 rfl) rfl
theorem q1505 : (Jvm.Cond.methodLink "FourOnOne$State" (163 : Nat) ({ cls := "FourOnOne$State", name := "sees", desc := "(II)I" } : Jvm.MethodName)) ∈ lw_all := lw_g (lw_at lw_m6 139 rfl) rfl
theorem q1506 : (Jvm.Cond.instanceMethod ({ cls := "FourOnOne$State", name := "sees", desc := "(II)I" } : Jvm.MethodName)) ∈ lw_all := lw_g (lw_at lw_m6 140 rfl) rfl
theorem q1507 : (Jvm.Cond.selects "FourOnOne$State" ({ cls := "FourOnOne$State", name := "sees", desc := "(II)I" } : Jvm.MethodName) ({ cls := "FourOnOne$State", name := "sees", desc := "(II)I" } : Jvm.MethodName)) ∈ lw_all := lw_g (lw_at lw_m6 141 rfl) rfl
theorem q1508 : (Jvm.Cond.code ({ cls := "FourOnOne$State", name := "sees", desc := "(II)I" } : Jvm.MethodName) prog_18_method_12_code (4 : Nat) (Option.some Jvm.ClassFile.FieldType.int)) ∈ lw_all := lw_g (lw_at lw_m6 142 rfl) rfl
theorem q1509 : (Jvm.Cond.methodLink "FourOnOne$State" (134 : Nat) ({ cls := "FourOnOne$State", name := "tells", desc := "(II)V" } : Jvm.MethodName)) ∈ lw_all := lw_g (lw_at lw_m6 143 rfl) rfl
theorem q1510 : (Jvm.Cond.privateMethod ({ cls := "FourOnOne$State", name := "tells", desc := "(II)V" } : Jvm.MethodName)) ∈ lw_tbl := lw_at lw_m6 144 rfl
theorem q1511 : (Jvm.Cond.instanceMethod ({ cls := "FourOnOne$State", name := "tells", desc := "(II)V" } : Jvm.MethodName)) ∈ lw_all := lw_g (lw_at lw_m6 145 rfl) rfl
theorem q1512 : (Jvm.Cond.code ({ cls := "FourOnOne$State", name := "tells", desc := "(II)V" } : Jvm.MethodName) prog_18_method_9_code (5 : Nat) (Option.none : Option Jvm.ClassFile.FieldType)) ∈ lw_all := lw_g (lw_at lw_m6 146 rfl) rfl
theorem q1513 : (Jvm.Cond.methodLink "FourOnOne$State" (138 : Nat) ({ cls := "FourOnOne$State", name := "learns", desc := "(II)V" } : Jvm.MethodName)) ∈ lw_all := lw_g (lw_at lw_m6 147 rfl) rfl
theorem q1514 : (Jvm.Cond.privateMethod ({ cls := "FourOnOne$State", name := "learns", desc := "(II)V" } : Jvm.MethodName)) ∈ lw_tbl := lw_at lw_m6 148 rfl
theorem q1515 : (Jvm.Cond.instanceMethod ({ cls := "FourOnOne$State", name := "learns", desc := "(II)V" } : Jvm.MethodName)) ∈ lw_all := lw_g (lw_at lw_m6 149 rfl) rfl
theorem q1516 : (Jvm.Cond.code ({ cls := "FourOnOne$State", name := "learns", desc := "(II)V" } : Jvm.MethodName) prog_18_method_11_code (7 : Nat) (Option.none : Option Jvm.ClassFile.FieldType)) ∈ lw_all := lw_g (lw_at lw_m6 150 rfl) rfl
theorem q1517 : (Jvm.Cond.methodLink "FourOnOne$State" (124 : Nat) ({ cls := "FourOnOne$Value", name := "at", desc := "(LFourOnOne$Moment;)J" } : Jvm.MethodName)) ∈ lw_all := lw_g (lw_at lw_m6 151 rfl) rfl
theorem q1518 : (Jvm.Cond.methodLink "FourOnOne$State" (117 : Nat) ({ cls := "java/lang/Math", name := "max", desc := "(JJ)J" } : Jvm.MethodName)) ∈ lw_all := lw_g (lw_at lw_m6 152 rfl) rfl
theorem q1519 : (Jvm.Cond.methodLink "FourOnOne$State" (130 : Nat) ({ cls := "FourOnOne$State", name := "cut", desc := "(J)I" } : Jvm.MethodName)) ∈ lw_all := lw_g (lw_at lw_m6 153 rfl) rfl
theorem q1520 : (Jvm.Cond.privateMethod ({ cls := "FourOnOne$State", name := "cut", desc := "(J)I" } : Jvm.MethodName)) ∈ lw_tbl := lw_at lw_m6 154 rfl
theorem q1521 : (Jvm.Cond.instanceMethod ({ cls := "FourOnOne$State", name := "cut", desc := "(J)I" } : Jvm.MethodName)) ∈ lw_all := lw_g (lw_at lw_m6 155 rfl) rfl
theorem q1522 : (Jvm.Cond.code ({ cls := "FourOnOne$State", name := "cut", desc := "(J)I" } : Jvm.MethodName) prog_18_method_10_code (3 : Nat) (Option.some Jvm.ClassFile.FieldType.int)) ∈ lw_all := lw_g (lw_at lw_m6 156 rfl) rfl
theorem q1523 : (Jvm.Cond.constantLong "FourOnOne$State" (109 : Nat) (999 : Int64)) ∈ lw_all := lw_g (lw_at lw_m6 157 rfl) rfl
theorem q1524 : (Jvm.Cond.methodLink "FourOnOne$State" (111 : Nat) ({ cls := "java/lang/Math", name := "min", desc := "(JJ)J" } : Jvm.MethodName)) ∈ lw_all := lw_g (lw_at lw_m6 158 rfl) rfl
theorem q1525 : (Jvm.Cond.methodLink "FourOnOne$State" (140 : Nat) ({ cls := "java/lang/Math", name := "min", desc := "(II)I" } : Jvm.MethodName)) ∈ lw_all := lw_g (lw_at lw_m6 159 rfl) rfl
theorem q1526 : (Jvm.Cond.methodLinkNest "FourOnOne$State" (142 : Nat) ({ cls := "FourOnOne", name := "worthOf", desc := "(II)I" } : Jvm.MethodName) "FourOnOne") ∈ lw_tbl := lw_at lw_m6 160 rfl
theorem q1638 : (Jvm.Cond.instanceMethod ({ cls := "FourOnOne$State", name := "isStranger", desc := "(I)Z" } : Jvm.MethodName)) ∈ lw_all := lw_g (lw_at lw_m7 32 rfl) rfl
theorem q1639 : (Jvm.Cond.selects "FourOnOne$State" ({ cls := "FourOnOne$State", name := "isStranger", desc := "(I)Z" } : Jvm.MethodName) ({ cls := "FourOnOne$State", name := "isStranger", desc := "(I)Z" } : Jvm.MethodName)) ∈ lw_all := lw_g (lw_at lw_m7 33 rfl) rfl
theorem q1640 : (Jvm.Cond.code ({ cls := "FourOnOne$State", name := "isStranger", desc := "(I)Z" } : Jvm.MethodName) prog_18_method_13_code (2 : Nat) (Option.some Jvm.ClassFile.FieldType.boolean)) ∈ lw_all := lw_g (lw_at lw_m7 34 rfl) rfl
theorem q2646 : (Jvm.Cond.castable "FourOnOne$State" "java/lang/Object") ∈ lw_tbl := lw_at lw_m11 80 rfl
theorem in_X5 : ∀ w ∈ wsX50, w ∈ lw_all := lw_in wsX50 [450, 452, 454, 456, 458, 460, 462, 464, 466, 468, 470] (by decide +kernel) (by decide +kernel)
